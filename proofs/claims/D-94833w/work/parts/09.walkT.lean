set_option maxRecDepth 100000
theorem gj_topi {g : Gm} {nL : Nat} {P : Heap → List Loc → Prop} {cu : Nat} {Q : State → Prop} {pc : Nat} {lc : List (Nat × Value)} {rest : List Value} {x : Int32} (k : ∀ y : Int32, y = x → GJ g nL P cu Q pc lc (.int y :: rest)) : GJ g nL P cu Q pc lc (.int x :: rest) := k x rfl
theorem gj_topl {g : Gm} {nL : Nat} {P : Heap → List Loc → Prop} {cu : Nat} {Q : State → Prop} {pc : Nat} {lc : List (Nat × Value)} {rest : List Value} {x : Int64} (k : ∀ y : Int64, y = x → GJ g nL P cu Q pc lc (.long y :: rest)) : GJ g nL P cu Q pc lc (.long x :: rest) := k x rfl
theorem gt_nmJ {g : Gm} {nL : Nat} {d : TD} {t : Nat} {J : Nat → Nat → Int32} {lw : Int64} {H0 : Heap} {cu : Nat} {Q : State → Prop} {pc : Nat} {lc : List (Nat × Value)} {rest : List Value} (k : ∀ J', J' = J → GJ g nL (TP d t J' lw H0) cu Q pc lc rest) : GJ g nL (TP d t J lw H0) cu Q pc lc rest := k J rfl
theorem gt_nml {g : Gm} {nL : Nat} {d : TD} {t : Nat} {J : Nat → Nat → Int32} {lw : Int64} {H0 : Heap} {cu : Nat} {Q : State → Prop} {pc : Nat} {lc : List (Nat × Value)} {rest : List Value} (k : ∀ l', l' = lw → GJ g nL (TP d t J l' H0) cu Q pc lc rest) : GJ g nL (TP d t J lw H0) cu Q pc lc rest := k lw rfl
/-! thrown()I -/
def wp_X3_thrown (Φ : Int32 → (Nat → Nat → Int32) → Int64 → Prop) (J : Nat → Nat → Int32) (lw : Int64) : Prop :=
Φ (J 0 0) J lw
theorem wk_X3_thrown {g : Gm} {d : TD} {t : Nat} (B : BdT g d prog_11_method_2_code 1 (some .int) 0 0) (Φ : Int32 → (Nat → Nat → Int32) → Int64 → Prop) (J : Nat → Nat → Int32) (lw : Int64) (hw : wp_X3_thrown Φ J lw) : GJ g 1 (TP d t J lw (gs g).heap) 0 (TQ g d t (ansI Φ)) 0 [(0, rv (t + 1))] [] := by
  unfold wp_X3_thrown at hw
  have C := B.1
  have hW := B.2.1
  refine gj_aload_n C dX3_thrown_0 0 rfl ?_
  refine tg134 C hW dX3_thrown_1 ?_
  exact gt_iret B hw dX3_thrown_4

theorem met_X3_thrown (l : Launch) {d : TD} {t : Nat} {J : Nat → Nat → Int32} {lw : Int64} {Φ : Int32 → (Nat → Nat → Int32) → Int64 → Prop} (hw : wp_X3_thrown Φ J lw) : MetT l yX3_thrown prog_11_method_2_code 1 (some .int) 0 0 [.ref t] d t J lw (ansI Φ) :=
  mt_of (by decide +kernel) rfl (Nat.le_of_ble_eq_true rfl) (fun g _ B => wk_X3_thrown B _ J lw hw)
/-! lays(I)V -/
def wf_X3_lays_3 (p1 : Int32) (Φ : (Nat → Nat → Int32) → Int64 → Prop) (X3 : Int32 → (Nat → Nat → Int32) → Int64 → Prop) (v2 : Int32) (J : Nat → Nat → Int32) (lw : Int64) : Prop :=
(if v2 < 0 then Φ J lw else (vp_in (J 0 13) (tln 12) ∧ (∀ J3 : Nat → Nat → Int32, J3 = u2 J 12 (Int32.toNatClampNeg (J 0 13)) ((p1 >>> (v2 &&& 31)) &&& 255) → (∀ J4 : Nat → Nat → Int32, J4 = u2 J3 0 13 ((J3 0 13) + 1) → (∀ x5 : Int32, x5 = v2 + (-8) → X3 x5 J4 lw)))))
def wl_X3_lays_3 (p1 : Int32) (Φ : (Nat → Nat → Int32) → Int64 → Prop) (v2 : Int32) (J : Nat → Nat → Int32) (lw : Int64) : Prop := ∀ X3 : Int32 → (Nat → Nat → Int32) → Int64 → Prop, (∀ v2 J lw, wf_X3_lays_3 p1 Φ X3 v2 J lw → X3 v2 J lw) → X3 v2 J lw
theorem wk_X3_lays_3 {g : Gm} {d : TD} {t : Nat} (B : BdT g d prog_11_method_9_code 3 none 0 0) (p1 : Int32) (Φ : (Nat → Nat → Int32) → Int64 → Prop) (X3 : Int32 → (Nat → Nat → Int32) → Int64 → Prop) (hX3 : ∀ v2 J lw, X3 v2 J lw → GJ g 3 (TP d t J lw (gs g).heap) 0 (TQ g d t (ansV Φ)) 3 [(0, rv (t + 1)), (1, .int p1), (2, .int v2)] []) (v2 : Int32) (J : Nat → Nat → Int32) (lw : Int64) (hw : wf_X3_lays_3 p1 Φ X3 v2 J lw) : GJ g 3 (TP d t J lw (gs g).heap) 0 (TQ g d t (ansV Φ)) 3 [(0, rv (t + 1)), (1, .int p1), (2, .int v2)] [] := by
  unfold wf_X3_lays_3 at hw
  have C := B.1
  have hW := B.2.1
  refine gj_iload_n C dX3_lays_3 2 rfl ?_
  refine gj_if_lt (tgt := 39) C dX3_lays_4 rfl (fun c1 => ?_) (fun c1 => ?_)
  · have hw := it_t hw c1
    exact gt_vret B hw dX3_lays_39
  · have hw := it_f hw c1
    refine gj_aload_n C dX3_lays_7 0 rfl ?_
    refine tg31 C hW dX3_lays_8 ?_
    refine gj_aload_n C dX3_lays_11 0 rfl ?_
    refine tg137 C hW dX3_lays_12 ?_
    refine gj_iload_n C dX3_lays_15 1 rfl ?_
    refine gj_iload_n C dX3_lays_16 2 rfl ?_
    refine gj_ishr C dX3_lays_17 ?_
    refine gj_sipush (v := 255) C dX3_lays_18 rfl ?_
    refine gj_iand C dX3_lays_21 ?_
    obtain ⟨h2, hw⟩ := hw
    refine gt_iast C hW (by decide) h2 dX3_lays_22 ?_
    refine gt_nmJ (fun J3 eJ3 => ?_)
    have hw := hw J3 eJ3
    refine gj_aload_n C dX3_lays_23 0 rfl ?_
    refine gj_dup C dX3_lays_24 (rv_cat _) ?_
    refine tg137 C hW dX3_lays_25 ?_
    refine gj_iconst (v := 1) C dX3_lays_28 rfl ?_
    refine gj_iadd C dX3_lays_29 ?_
    refine tp137 C hW dX3_lays_30 ?_
    refine gt_nmJ (fun J4 eJ4 => ?_)
    have hw := hw J4 eJ4
    obtain ⟨x5, ex5⟩ : ∃ x5 : Int32, x5 = v2 + (-8) := ⟨_, rfl⟩
    have hw := hw x5 ex5
    refine gj_iinc (lc' := [(2, .int x5), (0, rv (t + 1)), (1, .int p1)]) (w := (-8)) (v := x5) C dX3_lays_33 2 rfl rfl ex5.symm (Nat.le_of_ble_eq_true rfl) rfl ?_
    refine gj_goto (tgt := 3) C dX3_lays_36 rfl ?_
    refine gj_sub (lc' := [(0, rv (t + 1)), (1, .int p1), (2, .int x5)]) [1, 2, 0] rfl ?_
    exact hX3 _ _ _ hw

theorem wq_X3_lays_3 {g : Gm} {d : TD} {t : Nat} (B : BdT g d prog_11_method_9_code 3 none 0 0) (p1 : Int32) (Φ : (Nat → Nat → Int32) → Int64 → Prop) (v2 : Int32) (J : Nat → Nat → Int32) (lw : Int64) (hw : wl_X3_lays_3 p1 Φ v2 J lw) : GJ g 3 (TP d t J lw (gs g).heap) 0 (TQ g d t (ansV Φ)) 3 [(0, rv (t + 1)), (1, .int p1), (2, .int v2)] [] :=
  hw (fun v2 J lw => GJ g 3 (TP d t J lw (gs g).heap) 0 (TQ g d t (ansV Φ)) 3 [(0, rv (t + 1)), (1, .int p1), (2, .int v2)] []) (fun v2 J lw h => wk_X3_lays_3 B p1 Φ (fun v2 J lw => GJ g 3 (TP d t J lw (gs g).heap) 0 (TQ g d t (ansV Φ)) 3 [(0, rv (t + 1)), (1, .int p1), (2, .int v2)] []) (fun v2 J lw h => h) v2 J lw h)
def wp_X3_lays (p1 : Int32) (Φ : (Nat → Nat → Int32) → Int64 → Prop) (J : Nat → Nat → Int32) (lw : Int64) : Prop :=
wl_X3_lays_3 p1 Φ 24 J lw
theorem wk_X3_lays {g : Gm} {d : TD} {t : Nat} (B : BdT g d prog_11_method_9_code 3 none 0 0) (p1 : Int32) (Φ : (Nat → Nat → Int32) → Int64 → Prop) (J : Nat → Nat → Int32) (lw : Int64) (hw : wp_X3_lays p1 Φ J lw) : GJ g 3 (TP d t J lw (gs g).heap) 0 (TQ g d t (ansV Φ)) 0 [(0, rv (t + 1)), (1, .int p1)] [] := by
  unfold wp_X3_lays at hw
  have C := B.1
  have hW := B.2.1
  refine gj_bipush (v := 24) C dX3_lays_0 rfl ?_
  refine gj_istore_n (lc' := [(2, .int 24), (0, rv (t + 1)), (1, .int p1)]) C dX3_lays_2 (Nat.le_of_ble_eq_true rfl) rfl ?_
  refine gj_sub (lc' := [(0, rv (t + 1)), (1, .int p1), (2, .int 24)]) [1, 2, 0] rfl ?_
  exact wq_X3_lays_3 B _ _ _ _ _ hw

theorem met_X3_lays (l : Launch) {d : TD} {t : Nat} {J : Nat → Nat → Int32} {lw : Int64} {p1 : Int32} {Φ : (Nat → Nat → Int32) → Int64 → Prop} (hw : wp_X3_lays p1 Φ J lw) : MetT l yX3_lays prog_11_method_9_code 3 none 0 0 [.ref t, .int p1] d t J lw (ansV Φ) :=
  mt_of (by decide +kernel) rfl (Nat.le_of_ble_eq_true rfl) (fun g _ B => wk_X3_lays B _ _ J lw hw)
theorem tc_X3_lays {g : Gm} {d : TD} {t : Nat} {cc : ByteArray} {nL : Nat} {ret : Option FieldType} {fr lo : Nat} (B : BdT g d cc nL ret fr lo) {J : Nat → Nat → Int32} {lw : Int64} {H0 : Heap} {Q : State → Prop} {pc : Nat} {lc : List (Nat × Value)} {rest : List Value} {p1 : Int32} {Φ : (Nat → Nat → Int32) → Int64 → Prop} (hw : wp_X3_lays p1 Φ J lw) (hf : 1 ≤ fr) (hlo : 22 ≤ lo) (hrest : (rest.map fun v => v.category).sum ≤ 8) (dg : decode cc pc = .ok (.invokevirtual 140, 3)) (k : ∀ J' lw', Φ J' lw' → GJ g nL (TP d t J' lw' H0) 0 Q (pc + 3) lc (rest)) : GJ g nL (TP d t J lw H0) 0 Q pc lc (.int p1 :: rv (t + 1) :: rest) :=
  gt_callV (n := 1) (As := [.int p1]) B (met_X3_lays g.2.1 hw) (lw_V q1413 q1415 qs40 q97 q1416) ⟨rfl, by decide +kernel, by decide +kernel, by decide +kernel⟩ rfl hf hlo ⟨Nat.zero_le _, Nat.zero_le _⟩ rfl hrest dg (fun v J' lw' hp => by obtain ⟨rfl, hp⟩ := hp; exact k J' lw' hp)
/-! feed(IIIII)I -/
def wp_X3_feed (p1 : Int32) (p2 : Int32) (p3 : Int32) (p4 : Int32) (p5 : Int32) (Φ : Int32 → (Nat → Nat → Int32) → Int64 → Prop) (J : Nat → Nat → Int32) (lw : Int64) : Prop :=
(∀ J1 : Nat → Nat → Int32, J1 = u2 J 0 0 0 → (if ((J1 0 13) + 20) ≤ 700 then (wp_X3_lays p1 (fun J3 l4 => (wp_X3_lays p2 (fun J6 l7 => (wp_X3_lays p3 (fun J9 l10 => (wp_X3_lays p4 (fun J12 l13 => (wp_X3_lays p5 (fun J15 l16 => Φ (J15 0 13) J15 l16) J12 l13)) J9 l10)) J6 l7)) J3 l4)) J1 lw) else Φ (-1) J1 lw))
theorem wk_X3_feed {g : Gm} {d : TD} {t : Nat} (B : BdT g d prog_11_method_8_code 6 (some .int) 1 22) (p1 : Int32) (p2 : Int32) (p3 : Int32) (p4 : Int32) (p5 : Int32) (Φ : Int32 → (Nat → Nat → Int32) → Int64 → Prop) (J : Nat → Nat → Int32) (lw : Int64) (hw : wp_X3_feed p1 p2 p3 p4 p5 Φ J lw) : GJ g 6 (TP d t J lw (gs g).heap) 0 (TQ g d t (ansI Φ)) 0 [(0, rv (t + 1)), (1, .int p1), (2, .int p2), (3, .int p3), (4, .int p4), (5, .int p5)] [] := by
  unfold wp_X3_feed at hw
  have C := B.1
  have hW := B.2.1
  refine gj_aload_n C dX3_feed_0 0 rfl ?_
  refine gj_iconst (v := 0) C dX3_feed_1 rfl ?_
  refine tp134 C hW dX3_feed_2 ?_
  refine gt_nmJ (fun J1 eJ1 => ?_)
  have hw := hw J1 eJ1
  refine gj_aload_n C dX3_feed_5 0 rfl ?_
  refine tg137 C hW dX3_feed_6 ?_
  refine gj_bipush (v := 20) C dX3_feed_9 rfl ?_
  refine gj_iadd C dX3_feed_11 ?_
  refine gj_sipush (v := 700) C dX3_feed_12 rfl ?_
  refine gj_icmp_le (tgt := 20) C dX3_feed_15 rfl (fun c2 => ?_) (fun c2 => ?_)
  · have hw := it_t hw c2
    refine gj_aload_n C dX3_feed_20 0 rfl ?_
    refine gj_iload_n C dX3_feed_21 1 rfl ?_
    refine tc_X3_lays B hw (Nat.le_of_ble_eq_true rfl) (Nat.le_of_ble_eq_true rfl) (Nat.le_of_ble_eq_true rfl) dX3_feed_22 (fun J3 l4 hw => ?_)
    refine gj_aload_n C dX3_feed_25 0 rfl ?_
    refine gj_iload_n C dX3_feed_26 2 rfl ?_
    refine tc_X3_lays B hw (Nat.le_of_ble_eq_true rfl) (Nat.le_of_ble_eq_true rfl) (Nat.le_of_ble_eq_true rfl) dX3_feed_27 (fun J6 l7 hw => ?_)
    refine gj_aload_n C dX3_feed_30 0 rfl ?_
    refine gj_iload_n C dX3_feed_31 3 rfl ?_
    refine tc_X3_lays B hw (Nat.le_of_ble_eq_true rfl) (Nat.le_of_ble_eq_true rfl) (Nat.le_of_ble_eq_true rfl) dX3_feed_32 (fun J9 l10 hw => ?_)
    refine gj_aload_n C dX3_feed_35 0 rfl ?_
    refine gj_iload C dX3_feed_36 4 rfl ?_
    refine tc_X3_lays B hw (Nat.le_of_ble_eq_true rfl) (Nat.le_of_ble_eq_true rfl) (Nat.le_of_ble_eq_true rfl) dX3_feed_38 (fun J12 l13 hw => ?_)
    refine gj_aload_n C dX3_feed_41 0 rfl ?_
    refine gj_iload C dX3_feed_42 5 rfl ?_
    refine tc_X3_lays B hw (Nat.le_of_ble_eq_true rfl) (Nat.le_of_ble_eq_true rfl) (Nat.le_of_ble_eq_true rfl) dX3_feed_44 (fun J15 l16 hw => ?_)
    refine gj_aload_n C dX3_feed_47 0 rfl ?_
    refine tg137 C hW dX3_feed_48 ?_
    exact gt_iret B hw dX3_feed_51
  · have hw := it_f hw c2
    refine gj_iconst (v := (-1)) C dX3_feed_18 rfl ?_
    exact gt_iret B hw dX3_feed_19

theorem met_X3_feed (l : Launch) {d : TD} {t : Nat} {J : Nat → Nat → Int32} {lw : Int64} {p1 : Int32} {p2 : Int32} {p3 : Int32} {p4 : Int32} {p5 : Int32} {Φ : Int32 → (Nat → Nat → Int32) → Int64 → Prop} (hw : wp_X3_feed p1 p2 p3 p4 p5 Φ J lw) : MetT l yX3_feed prog_11_method_8_code 6 (some .int) 1 22 [.ref t, .int p1, .int p2, .int p3, .int p4, .int p5] d t J lw (ansI Φ) :=
  mt_of (by decide +kernel) rfl (Nat.le_of_ble_eq_true rfl) (fun g _ B => wk_X3_feed B _ _ _ _ _ _ J lw hw)
/-! right(ZI)Z -/
def wj_X3_right_16 (p1 : Int32) (p2 : Int32) (Φ : Int32 → (Nat → Nat → Int32) → Int64 → Prop) (J : Nat → Nat → Int32) (lw : Int64) : Prop :=
(∀ x2 : Int32, x2 = (if (J 0 0) = 0 then 1 else 0) → Φ x2 J lw)
theorem wq_X3_right_16 {g : Gm} {d : TD} {t : Nat} (B : BdT g d prog_11_method_3_code 3 (some .boolean) 0 0) (p1 : Int32) (p2 : Int32) (Φ : Int32 → (Nat → Nat → Int32) → Int64 → Prop) (J : Nat → Nat → Int32) (lw : Int64) (hw : wj_X3_right_16 p1 p2 Φ J lw) : GJ g 3 (TP d t J lw (gs g).heap) 0 (TQ g d t (ansZ Φ)) 16 [(0, rv (t + 1))] [] := by
  unfold wj_X3_right_16 at hw
  have C := B.1
  have hW := B.2.1
  refine gj_aload_n C dX3_right_16 0 rfl ?_
  refine tg134 C hW dX3_right_17 ?_
  have key : ∀ x2 : Int32, x2 = (if (J 0 0) = 0 then 1 else 0) → GJ g 3 (TP d t J lw (gs g).heap) 0 (TQ g d t (ansZ Φ)) 28 [(0, rv (t + 1))] [.int x2] → GJ g 3 (TP d t J lw (gs g).heap) 0 (TQ g d t (ansZ Φ)) 20 [(0, rv (t + 1))] [.int (J 0 0)] := by
    intro x2 ex2 kk
    refine gj_if_ne (tgt := 27) C dX3_right_20 rfl (fun c3 => ?_) (fun c3 => ?_)
    · refine gj_iconst (v := 0) C dX3_right_27 rfl ?_
      rw [if_neg c3] at ex2
      subst ex2
      exact kk
    · refine gj_iconst (v := 1) C dX3_right_23 rfl ?_
      refine gj_goto (tgt := 28) C dX3_right_24 rfl ?_
      rw [if_pos c3] at ex2
      subst ex2
      exact kk
  obtain ⟨x2, ex2⟩ : ∃ x2 : Int32, x2 = (if (J 0 0) = 0 then 1 else 0) := ⟨_, rfl⟩
  have bx2 : x2 = 0 ∨ x2 = 1 := by rw [ex2]; (repeat' split) <;> simp
  refine key x2 ex2 ?_
  have hw := hw x2 ex2
  clear key
  exact gt_zret B (bx2) hw dX3_right_28

def wp_X3_right (p1 : Int32) (p2 : Int32) (Φ : Int32 → (Nat → Nat → Int32) → Int64 → Prop) (J : Nat → Nat → Int32) (lw : Int64) : Prop :=
(if (J 0 0) = 0 then (if p1 = 0 then (∀ J5 : Nat → Nat → Int32, J5 = u2 J 0 0 p2 → wj_X3_right_16 p1 p2 Φ J5 lw) else wj_X3_right_16 p1 p2 Φ J lw) else wj_X3_right_16 p1 p2 Φ J lw)
theorem wk_X3_right {g : Gm} {d : TD} {t : Nat} (B : BdT g d prog_11_method_3_code 3 (some .boolean) 0 0) (p1 : Int32) (p2 : Int32) (Φ : Int32 → (Nat → Nat → Int32) → Int64 → Prop) (J : Nat → Nat → Int32) (lw : Int64) (hw : wp_X3_right p1 p2 Φ J lw) : GJ g 3 (TP d t J lw (gs g).heap) 0 (TQ g d t (ansZ Φ)) 0 [(0, rv (t + 1)), (1, .int p1), (2, .int p2)] [] := by
  unfold wp_X3_right at hw
  have C := B.1
  have hW := B.2.1
  refine gj_aload_n C dX3_right_0 0 rfl ?_
  refine tg134 C hW dX3_right_1 ?_
  refine gj_if_ne (tgt := 16) C dX3_right_4 rfl (fun c1 => ?_) (fun c1 => ?_)
  · have hw := it_f hw c1
    refine gj_sub (lc' := [(0, rv (t + 1))]) [0] rfl ?_
    exact wq_X3_right_16 B _ _ _ _ _ hw
  · have hw := it_t hw c1
    refine gj_iload_n C dX3_right_7 1 rfl ?_
    refine gj_if_ne (tgt := 16) C dX3_right_8 rfl (fun c4 => ?_) (fun c4 => ?_)
    · have hw := it_f hw c4
      refine gj_sub (lc' := [(0, rv (t + 1))]) [0] rfl ?_
      exact wq_X3_right_16 B _ _ _ _ _ hw
    · have hw := it_t hw c4
      refine gj_aload_n C dX3_right_11 0 rfl ?_
      refine gj_iload_n C dX3_right_12 2 rfl ?_
      refine tp134 C hW dX3_right_13 ?_
      refine gt_nmJ (fun J5 eJ5 => ?_)
      have hw := hw J5 eJ5
      refine gj_sub (lc' := [(0, rv (t + 1))]) [0] rfl ?_
      exact wq_X3_right_16 B _ _ _ _ _ hw

theorem met_X3_right (l : Launch) {d : TD} {t : Nat} {J : Nat → Nat → Int32} {lw : Int64} {p1 : Int32} {p2 : Int32} {Φ : Int32 → (Nat → Nat → Int32) → Int64 → Prop} (hw : wp_X3_right p1 p2 Φ J lw) : MetT l yX3_right prog_11_method_3_code 3 (some .boolean) 0 0 [.ref t, .int p1, .int p2] d t J lw (ansZ Φ) :=
  mt_of (by decide +kernel) rfl (Nat.le_of_ble_eq_true rfl) (fun g _ B => wk_X3_right B _ _ _ J lw hw)
theorem tc_X3_right {g : Gm} {d : TD} {t : Nat} {cc : ByteArray} {nL : Nat} {ret : Option FieldType} {fr lo : Nat} (B : BdT g d cc nL ret fr lo) {J : Nat → Nat → Int32} {lw : Int64} {H0 : Heap} {Q : State → Prop} {pc : Nat} {lc : List (Nat × Value)} {rest : List Value} {p1 : Int32} {p2 : Int32} {Φ : Int32 → (Nat → Nat → Int32) → Int64 → Prop} (hw : wp_X3_right p1 p2 Φ J lw) (hf : 1 ≤ fr) (hlo : 22 ≤ lo) (hrest : (rest.map fun v => v.category).sum ≤ 8) (dg : decode cc pc = .ok (.invokevirtual 241, 3)) (k : ∀ (r : Int32) J' lw', (r = 0 ∨ r = 1) → Φ r J' lw' → GJ g nL (TP d t J' lw' H0) 0 Q (pc + 3) lc (.int r :: rest)) : GJ g nL (TP d t J lw H0) 0 Q pc lc (.int p2 :: .int p1 :: rv (t + 1) :: rest) :=
  gt_callV (n := 2) (As := [.int p1, .int p2]) B (met_X3_right g.2.1 hw) (lw_V q1421 q1423 qs41 q97 q1424) ⟨rfl, by decide +kernel, by decide +kernel, by decide +kernel⟩ rfl hf hlo ⟨Nat.zero_le _, Nat.zero_le _⟩ rfl hrest dg (fun v J' lw' hp => by obtain ⟨r, rfl, hb, hp⟩ := hp; exact k r J' lw' hb hp)
/-! byteAt(I)I -/
def wp_X3_byteAt (p1 : Int32) (Φ : Int32 → (Nat → Nat → Int32) → Int64 → Prop) (J : Nat → Nat → Int32) (lw : Int64) : Prop :=
(if (J 0 17) ≤ p1 then Φ 0 J lw else (vp_in p1 (tln 12) ∧ Φ (J 12 (Int32.toNatClampNeg p1)) J lw))
theorem wk_X3_byteAt {g : Gm} {d : TD} {t : Nat} (B : BdT g d prog_11_method_10_code 2 (some .int) 0 0) (p1 : Int32) (Φ : Int32 → (Nat → Nat → Int32) → Int64 → Prop) (J : Nat → Nat → Int32) (lw : Int64) (hw : wp_X3_byteAt p1 Φ J lw) : GJ g 2 (TP d t J lw (gs g).heap) 0 (TQ g d t (ansI Φ)) 0 [(0, rv (t + 1)), (1, .int p1)] [] := by
  unfold wp_X3_byteAt at hw
  have C := B.1
  have hW := B.2.1
  refine gj_iload_n C dX3_byteAt_0 1 rfl ?_
  refine gj_aload_n C dX3_byteAt_1 0 rfl ?_
  refine tg144 C hW dX3_byteAt_2 ?_
  refine gj_icmp_ge (tgt := 17) C dX3_byteAt_5 rfl (fun c1 => ?_) (fun c1 => ?_)
  · have hw := it_t hw c1
    refine gj_iconst (v := 0) C dX3_byteAt_17 rfl ?_
    exact gt_iret B hw dX3_byteAt_18
  · have hw := it_f hw c1
    refine gj_aload_n C dX3_byteAt_8 0 rfl ?_
    refine tg31 C hW dX3_byteAt_9 ?_
    refine gj_iload_n C dX3_byteAt_12 1 rfl ?_
    obtain ⟨h2, hw⟩ := hw
    refine gt_iald C hW (by decide) h2 dX3_byteAt_13 ?_
    refine gj_goto (tgt := 18) C dX3_byteAt_14 rfl ?_
    exact gt_iret B hw dX3_byteAt_18

theorem met_X3_byteAt (l : Launch) {d : TD} {t : Nat} {J : Nat → Nat → Int32} {lw : Int64} {p1 : Int32} {Φ : Int32 → (Nat → Nat → Int32) → Int64 → Prop} (hw : wp_X3_byteAt p1 Φ J lw) : MetT l yX3_byteAt prog_11_method_10_code 2 (some .int) 0 0 [.ref t, .int p1] d t J lw (ansI Φ) :=
  mt_of (by decide +kernel) rfl (Nat.le_of_ble_eq_true rfl) (fun g _ B => wk_X3_byteAt B _ _ J lw hw)
theorem tc_X3_byteAt {g : Gm} {d : TD} {t : Nat} {cc : ByteArray} {nL : Nat} {ret : Option FieldType} {fr lo : Nat} (B : BdT g d cc nL ret fr lo) {J : Nat → Nat → Int32} {lw : Int64} {H0 : Heap} {Q : State → Prop} {pc : Nat} {lc : List (Nat × Value)} {rest : List Value} {p1 : Int32} {Φ : Int32 → (Nat → Nat → Int32) → Int64 → Prop} (hw : wp_X3_byteAt p1 Φ J lw) (hf : 1 ≤ fr) (hlo : 21 ≤ lo) (hrest : (rest.map fun v => v.category).sum ≤ 8) (dg : decode cc pc = .ok (.invokevirtual 150, 3)) (k : ∀ (r : Int32) J' lw', Φ r J' lw' → GJ g nL (TP d t J' lw' H0) 0 Q (pc + 3) lc (.int r :: rest)) : GJ g nL (TP d t J lw H0) 0 Q pc lc (.int p1 :: rv (t + 1) :: rest) :=
  gt_callV (n := 1) (As := [.int p1]) B (met_X3_byteAt g.2.1 hw) (lw_V q1429 q1431 qs43 q97 q1432) ⟨rfl, by decide +kernel, by decide +kernel, by decide +kernel⟩ rfl hf hlo ⟨Nat.zero_le _, Nat.zero_le _⟩ rfl hrest dg (fun v J' lw' hp => by obtain ⟨r, rfl, hp⟩ := hp; exact k r J' lw' hp)
/-! isLetter(I)Z -/
def wp_X3_isLetter (p0 : Int32) (Φ : Int32 → (Nat → Nat → Int32) → Int64 → Prop) (J : Nat → Nat → Int32) (lw : Int64) : Prop :=
(∀ x1 : Int32, x1 = (if p0 < 97 then 0 else (if 122 < p0 then 0 else 1)) → Φ x1 J lw)
theorem wk_X3_isLetter {g : Gm} {d : TD} {t : Nat} (B : BdT g d prog_11_method_11_code 1 (some .boolean) 0 0) (p0 : Int32) (Φ : Int32 → (Nat → Nat → Int32) → Int64 → Prop) (J : Nat → Nat → Int32) (lw : Int64) (hw : wp_X3_isLetter p0 Φ J lw) : GJ g 1 (TP d t J lw (gs g).heap) 0 (TQ g d t (ansZ Φ)) 0 [(0, .int p0)] [] := by
  unfold wp_X3_isLetter at hw
  have C := B.1
  have hW := B.2.1
  refine gj_iload_n C dX3_isLetter_0 0 rfl ?_
  refine gj_bipush (v := 97) C dX3_isLetter_1 rfl ?_
  have key : ∀ x1 : Int32, x1 = (if p0 < 97 then 0 else (if 122 < p0 then 0 else 1)) → GJ g 1 (TP d t J lw (gs g).heap) 0 (TQ g d t (ansZ Φ)) 17 [(0, .int p0)] [.int x1] → GJ g 1 (TP d t J lw (gs g).heap) 0 (TQ g d t (ansZ Φ)) 3 [(0, .int p0)] [.int 97, .int p0] := by
    intro x1 ex1 kk
    refine gj_icmp_lt (tgt := 16) C dX3_isLetter_3 rfl (fun c2 => ?_) (fun c2 => ?_)
    · refine gj_iconst (v := 0) C dX3_isLetter_16 rfl ?_
      rw [if_pos c2] at ex1
      subst ex1
      exact kk
    · refine gj_iload_n C dX3_isLetter_6 0 rfl ?_
      refine gj_bipush (v := 122) C dX3_isLetter_7 rfl ?_
      refine gj_icmp_gt (tgt := 16) C dX3_isLetter_9 rfl (fun c3 => ?_) (fun c3 => ?_)
      · refine gj_iconst (v := 0) C dX3_isLetter_16 rfl ?_
        rw [if_neg c2, if_pos c3] at ex1
        subst ex1
        exact kk
      · refine gj_iconst (v := 1) C dX3_isLetter_12 rfl ?_
        refine gj_goto (tgt := 17) C dX3_isLetter_13 rfl ?_
        rw [if_neg c2, if_neg c3] at ex1
        subst ex1
        exact kk
  obtain ⟨x1, ex1⟩ : ∃ x1 : Int32, x1 = (if p0 < 97 then 0 else (if 122 < p0 then 0 else 1)) := ⟨_, rfl⟩
  have bx1 : x1 = 0 ∨ x1 = 1 := by rw [ex1]; (repeat' split) <;> simp
  refine key x1 ex1 ?_
  have hw := hw x1 ex1
  clear key
  exact gt_zret B (bx1) hw dX3_isLetter_17

theorem met_X3_isLetter (l : Launch) {d : TD} {t : Nat} {J : Nat → Nat → Int32} {lw : Int64} {p0 : Int32} {Φ : Int32 → (Nat → Nat → Int32) → Int64 → Prop} (hw : wp_X3_isLetter p0 Φ J lw) : MetT l yX3_isLetter prog_11_method_11_code 1 (some .boolean) 0 0 [.int p0] d t J lw (ansZ Φ) :=
  mt_of (by decide +kernel) rfl (Nat.le_of_ble_eq_true rfl) (fun g _ B => wk_X3_isLetter B _ _ J lw hw)
theorem tc_X3_isLetter {g : Gm} {d : TD} {t : Nat} {cc : ByteArray} {nL : Nat} {ret : Option FieldType} {fr lo : Nat} (B : BdT g d cc nL ret fr lo) {J : Nat → Nat → Int32} {lw : Int64} {H0 : Heap} {Q : State → Prop} {pc : Nat} {lc : List (Nat × Value)} {rest : List Value} {p0 : Int32} {Φ : Int32 → (Nat → Nat → Int32) → Int64 → Prop} (hw : wp_X3_isLetter p0 Φ J lw) (hf : 1 ≤ fr) (hlo : 20 ≤ lo) (hrest : (rest.map fun v => v.category).sum ≤ 8) (dg : decode cc pc = .ok (.invokestatic 167, 3)) (k : ∀ (r : Int32) J' lw', (r = 0 ∨ r = 1) → Φ r J' lw' → GJ g nL (TP d t J' lw' H0) 0 Q (pc + 3) lc (.int r :: rest)) : GJ g nL (TP d t J lw H0) 0 Q pc lc (.int p0 :: rest) :=
  gt_callS (n := 1) (As := [.int p0]) B (met_X3_isLetter g.2.1 hw) (lw_S q1433 q1434 q97 q1435) ⟨by decide +kernel, by decide +kernel, by decide +kernel⟩ rfl hf hlo ⟨Nat.zero_le _, Nat.zero_le _⟩ rfl hrest dg (fun v J' lw' hp => by obtain ⟨r, rfl, hb, hp⟩ := hp; exact k r J' lw' hb hp)
/-! isDigit(I)Z -/
def wp_X3_isDigit (p0 : Int32) (Φ : Int32 → (Nat → Nat → Int32) → Int64 → Prop) (J : Nat → Nat → Int32) (lw : Int64) : Prop :=
(∀ x1 : Int32, x1 = (if p0 < 48 then 0 else (if 57 < p0 then 0 else 1)) → Φ x1 J lw)
theorem wk_X3_isDigit {g : Gm} {d : TD} {t : Nat} (B : BdT g d prog_11_method_12_code 1 (some .boolean) 0 0) (p0 : Int32) (Φ : Int32 → (Nat → Nat → Int32) → Int64 → Prop) (J : Nat → Nat → Int32) (lw : Int64) (hw : wp_X3_isDigit p0 Φ J lw) : GJ g 1 (TP d t J lw (gs g).heap) 0 (TQ g d t (ansZ Φ)) 0 [(0, .int p0)] [] := by
  unfold wp_X3_isDigit at hw
  have C := B.1
  have hW := B.2.1
  refine gj_iload_n C dX3_isDigit_0 0 rfl ?_
  refine gj_bipush (v := 48) C dX3_isDigit_1 rfl ?_
  have key : ∀ x1 : Int32, x1 = (if p0 < 48 then 0 else (if 57 < p0 then 0 else 1)) → GJ g 1 (TP d t J lw (gs g).heap) 0 (TQ g d t (ansZ Φ)) 17 [(0, .int p0)] [.int x1] → GJ g 1 (TP d t J lw (gs g).heap) 0 (TQ g d t (ansZ Φ)) 3 [(0, .int p0)] [.int 48, .int p0] := by
    intro x1 ex1 kk
    refine gj_icmp_lt (tgt := 16) C dX3_isDigit_3 rfl (fun c2 => ?_) (fun c2 => ?_)
    · refine gj_iconst (v := 0) C dX3_isDigit_16 rfl ?_
      rw [if_pos c2] at ex1
      subst ex1
      exact kk
    · refine gj_iload_n C dX3_isDigit_6 0 rfl ?_
      refine gj_bipush (v := 57) C dX3_isDigit_7 rfl ?_
      refine gj_icmp_gt (tgt := 16) C dX3_isDigit_9 rfl (fun c3 => ?_) (fun c3 => ?_)
      · refine gj_iconst (v := 0) C dX3_isDigit_16 rfl ?_
        rw [if_neg c2, if_pos c3] at ex1
        subst ex1
        exact kk
      · refine gj_iconst (v := 1) C dX3_isDigit_12 rfl ?_
        refine gj_goto (tgt := 17) C dX3_isDigit_13 rfl ?_
        rw [if_neg c2, if_neg c3] at ex1
        subst ex1
        exact kk
  obtain ⟨x1, ex1⟩ : ∃ x1 : Int32, x1 = (if p0 < 48 then 0 else (if 57 < p0 then 0 else 1)) := ⟨_, rfl⟩
  have bx1 : x1 = 0 ∨ x1 = 1 := by rw [ex1]; (repeat' split) <;> simp
  refine key x1 ex1 ?_
  have hw := hw x1 ex1
  clear key
  exact gt_zret B (bx1) hw dX3_isDigit_17

theorem met_X3_isDigit (l : Launch) {d : TD} {t : Nat} {J : Nat → Nat → Int32} {lw : Int64} {p0 : Int32} {Φ : Int32 → (Nat → Nat → Int32) → Int64 → Prop} (hw : wp_X3_isDigit p0 Φ J lw) : MetT l yX3_isDigit prog_11_method_12_code 1 (some .boolean) 0 0 [.int p0] d t J lw (ansZ Φ) :=
  mt_of (by decide +kernel) rfl (Nat.le_of_ble_eq_true rfl) (fun g _ B => wk_X3_isDigit B _ _ J lw hw)
theorem tc_X3_isDigit {g : Gm} {d : TD} {t : Nat} {cc : ByteArray} {nL : Nat} {ret : Option FieldType} {fr lo : Nat} (B : BdT g d cc nL ret fr lo) {J : Nat → Nat → Int32} {lw : Int64} {H0 : Heap} {Q : State → Prop} {pc : Nat} {lc : List (Nat × Value)} {rest : List Value} {p0 : Int32} {Φ : Int32 → (Nat → Nat → Int32) → Int64 → Prop} (hw : wp_X3_isDigit p0 Φ J lw) (hf : 1 ≤ fr) (hlo : 20 ≤ lo) (hrest : (rest.map fun v => v.category).sum ≤ 8) (dg : decode cc pc = .ok (.invokestatic 171, 3)) (k : ∀ (r : Int32) J' lw', (r = 0 ∨ r = 1) → Φ r J' lw' → GJ g nL (TP d t J' lw' H0) 0 Q (pc + 3) lc (.int r :: rest)) : GJ g nL (TP d t J lw H0) 0 Q pc lc (.int p0 :: rest) :=
  gt_callS (n := 1) (As := [.int p0]) B (met_X3_isDigit g.2.1 hw) (lw_S q1436 q1437 q97 q1438) ⟨by decide +kernel, by decide +kernel, by decide +kernel⟩ rfl hf hlo ⟨Nat.zero_le _, Nat.zero_le _⟩ rfl hrest dg (fun v J' lw' hp => by obtain ⟨r, rfl, hb, hp⟩ := hp; exact k r J' lw' hb hp)
/-! steps()V -/
def wj_X3_steps_278 (Φ : (Nat → Nat → Int32) → Int64 → Prop) (J : Nat → Nat → Int32) (lw : Int64) : Prop :=
(∀ J21 : Nat → Nat → Int32, J21 = u2 J 0 21 ((J 0 18) - (J 0 20)) → Φ J21 lw)
theorem wq_X3_steps_278 {g : Gm} {d : TD} {t : Nat} (B : BdT g d prog_11_method_13_code 2 none 1 21) (Φ : (Nat → Nat → Int32) → Int64 → Prop) (J : Nat → Nat → Int32) (lw : Int64) (hw : wj_X3_steps_278 Φ J lw) : GJ g 2 (TP d t J lw (gs g).heap) 0 (TQ g d t (ansV Φ)) 278 [(0, rv (t + 1))] [] := by
  unfold wj_X3_steps_278 at hw
  have C := B.1
  have hW := B.2.1
  refine gj_aload_n C dX3_steps_278 0 rfl ?_
  refine gj_aload_n C dX3_steps_279 0 rfl ?_
  refine tg147 C hW dX3_steps_280 ?_
  refine gj_aload_n C dX3_steps_283 0 rfl ?_
  refine tg154 C hW dX3_steps_284 ?_
  refine gj_isub C dX3_steps_287 ?_
  refine tp174 C hW dX3_steps_288 ?_
  refine gt_nmJ (fun J21 eJ21 => ?_)
  have hw := hw J21 eJ21
  exact gt_vret B hw dX3_steps_291

def wj_X3_steps_232 (Φ : (Nat → Nat → Int32) → Int64 → Prop) (X182 : (Nat → Nat → Int32) → Int64 → Prop) (J : Nat → Nat → Int32) (lw : Int64) : Prop :=
(∀ J31 : Nat → Nat → Int32, J31 = u2 J 0 18 ((J 0 18) + 1) → X182 J31 lw)
theorem wq_X3_steps_232 {g : Gm} {d : TD} {t : Nat} (B : BdT g d prog_11_method_13_code 2 none 1 21) (Φ : (Nat → Nat → Int32) → Int64 → Prop) (X182 : (Nat → Nat → Int32) → Int64 → Prop) (hX182 : ∀ J lw, X182 J lw → GJ g 2 (TP d t J lw (gs g).heap) 0 (TQ g d t (ansV Φ)) 182 [(0, rv (t + 1))] []) (J : Nat → Nat → Int32) (lw : Int64) (hw : wj_X3_steps_232 Φ X182 J lw) : GJ g 2 (TP d t J lw (gs g).heap) 0 (TQ g d t (ansV Φ)) 232 [(0, rv (t + 1))] [] := by
  unfold wj_X3_steps_232 at hw
  have C := B.1
  have hW := B.2.1
  refine gj_aload_n C dX3_steps_232 0 rfl ?_
  refine gj_dup C dX3_steps_233 (rv_cat _) ?_
  refine tg147 C hW dX3_steps_234 ?_
  refine gj_iconst (v := 1) C dX3_steps_237 rfl ?_
  refine gj_iadd C dX3_steps_238 ?_
  refine tp147 C hW dX3_steps_239 ?_
  refine gt_nmJ (fun J31 eJ31 => ?_)
  have hw := hw J31 eJ31
  refine gj_goto (tgt := 182) C dX3_steps_242 rfl ?_
  exact hX182 _ _ hw

def wf_X3_steps_182 (Φ : (Nat → Nat → Int32) → Int64 → Prop) (X182 : (Nat → Nat → Int32) → Int64 → Prop) (J : Nat → Nat → Int32) (lw : Int64) : Prop :=
(wp_X3_byteAt (J 0 18) (fun r24 J22 l23 => (wp_X3_isDigit r24 (fun r27 J25 l26 => (if r27 = 0 then (∀ J29 : Nat → Nat → Int32, J29 = u2 J25 0 19 2 → wj_X3_steps_278 Φ J29 l26) else (if 3 ≤ ((J25 0 18) - (J25 0 20)) then wj_X3_steps_232 Φ X182 J25 l26 else (wp_X3_byteAt (J25 0 18) (fun r34 J32 l33 => (∀ J35 : Nat → Nat → Int32, J35 = u2 J32 0 22 (((10 * (J25 0 22)) + r34) - 48) → wj_X3_steps_232 Φ X182 J35 l33)) J25 l26)))) J22 l23)) J lw)
def wl_X3_steps_182 (Φ : (Nat → Nat → Int32) → Int64 → Prop) (J : Nat → Nat → Int32) (lw : Int64) : Prop := ∀ X182 : (Nat → Nat → Int32) → Int64 → Prop, (∀ J lw, wf_X3_steps_182 Φ X182 J lw → X182 J lw) → X182 J lw
theorem wk_X3_steps_182 {g : Gm} {d : TD} {t : Nat} (B : BdT g d prog_11_method_13_code 2 none 1 21) (Φ : (Nat → Nat → Int32) → Int64 → Prop) (X182 : (Nat → Nat → Int32) → Int64 → Prop) (hX182 : ∀ J lw, X182 J lw → GJ g 2 (TP d t J lw (gs g).heap) 0 (TQ g d t (ansV Φ)) 182 [(0, rv (t + 1))] []) (J : Nat → Nat → Int32) (lw : Int64) (hw : wf_X3_steps_182 Φ X182 J lw) : GJ g 2 (TP d t J lw (gs g).heap) 0 (TQ g d t (ansV Φ)) 182 [(0, rv (t + 1))] [] := by
  unfold wf_X3_steps_182 at hw
  have C := B.1
  have hW := B.2.1
  refine gj_aload_n C dX3_steps_182 0 rfl ?_
  refine gj_aload_n C dX3_steps_183 0 rfl ?_
  refine tg147 C hW dX3_steps_184 ?_
  refine tc_X3_byteAt B hw (Nat.le_of_ble_eq_true rfl) (Nat.le_of_ble_eq_true rfl) (Nat.le_of_ble_eq_true rfl) dX3_steps_187 (fun r24 J22 l23 hw => ?_)
  refine tc_X3_isDigit B hw (Nat.le_of_ble_eq_true rfl) (Nat.le_of_ble_eq_true rfl) (Nat.le_of_ble_eq_true rfl) dX3_steps_190 (fun r27 J25 l26 br27 hw => ?_)
  refine gj_if_eq (tgt := 245) C dX3_steps_193 rfl (fun c28 => ?_) (fun c28 => ?_)
  · have hw := it_t hw c28
    refine gj_aload_n C dX3_steps_245 0 rfl ?_
    refine gj_iconst (v := 2) C dX3_steps_246 rfl ?_
    refine tp164 C hW dX3_steps_247 ?_
    refine gt_nmJ (fun J29 eJ29 => ?_)
    have hw := hw J29 eJ29
    refine gj_goto (tgt := 278) C dX3_steps_250 rfl ?_
    exact wq_X3_steps_278 B _ _ _ hw
  · have hw := it_f hw c28
    refine gj_aload_n C dX3_steps_196 0 rfl ?_
    refine tg147 C hW dX3_steps_197 ?_
    refine gj_aload_n C dX3_steps_200 0 rfl ?_
    refine tg154 C hW dX3_steps_201 ?_
    refine gj_isub C dX3_steps_204 ?_
    refine gj_iconst (v := 3) C dX3_steps_205 rfl ?_
    refine gj_icmp_ge (tgt := 232) C dX3_steps_206 rfl (fun c30 => ?_) (fun c30 => ?_)
    · have hw := it_t hw c30
      exact wq_X3_steps_232 B _ _ hX182 _ _ hw
    · have hw := it_f hw c30
      refine gj_aload_n C dX3_steps_209 0 rfl ?_
      refine gj_bipush (v := 10) C dX3_steps_210 rfl ?_
      refine gj_aload_n C dX3_steps_212 0 rfl ?_
      refine tg161 C hW dX3_steps_213 ?_
      refine gj_imul C dX3_steps_216 ?_
      refine gj_aload_n C dX3_steps_217 0 rfl ?_
      refine gj_aload_n C dX3_steps_218 0 rfl ?_
      refine tg147 C hW dX3_steps_219 ?_
      refine tc_X3_byteAt B hw (Nat.le_of_ble_eq_true rfl) (Nat.le_of_ble_eq_true rfl) (Nat.le_of_ble_eq_true rfl) dX3_steps_222 (fun r34 J32 l33 hw => ?_)
      refine gj_iadd C dX3_steps_225 ?_
      refine gj_bipush (v := 48) C dX3_steps_226 rfl ?_
      refine gj_isub C dX3_steps_228 ?_
      refine tp161 C hW dX3_steps_229 ?_
      refine gt_nmJ (fun J35 eJ35 => ?_)
      have hw := hw J35 eJ35
      exact wq_X3_steps_232 B _ _ hX182 _ _ hw

theorem wq_X3_steps_182 {g : Gm} {d : TD} {t : Nat} (B : BdT g d prog_11_method_13_code 2 none 1 21) (Φ : (Nat → Nat → Int32) → Int64 → Prop) (J : Nat → Nat → Int32) (lw : Int64) (hw : wl_X3_steps_182 Φ J lw) : GJ g 2 (TP d t J lw (gs g).heap) 0 (TQ g d t (ansV Φ)) 182 [(0, rv (t + 1))] [] :=
  hw (fun J lw => GJ g 2 (TP d t J lw (gs g).heap) 0 (TQ g d t (ansV Φ)) 182 [(0, rv (t + 1))] []) (fun J lw h => wk_X3_steps_182 B Φ (fun J lw => GJ g 2 (TP d t J lw (gs g).heap) 0 (TQ g d t (ansV Φ)) 182 [(0, rv (t + 1))] []) (fun J lw h => h) J lw h)
def wj_X3_steps_154 (Φ : (Nat → Nat → Int32) → Int64 → Prop) (X103 : (Nat → Nat → Int32) → Int64 → Prop) (J : Nat → Nat → Int32) (lw : Int64) : Prop :=
(∀ J45 : Nat → Nat → Int32, J45 = u2 J 0 18 ((J 0 18) + 1) → X103 J45 lw)
theorem wq_X3_steps_154 {g : Gm} {d : TD} {t : Nat} (B : BdT g d prog_11_method_13_code 2 none 1 21) (Φ : (Nat → Nat → Int32) → Int64 → Prop) (X103 : (Nat → Nat → Int32) → Int64 → Prop) (hX103 : ∀ J lw, X103 J lw → GJ g 2 (TP d t J lw (gs g).heap) 0 (TQ g d t (ansV Φ)) 103 [(0, rv (t + 1))] []) (J : Nat → Nat → Int32) (lw : Int64) (hw : wj_X3_steps_154 Φ X103 J lw) : GJ g 2 (TP d t J lw (gs g).heap) 0 (TQ g d t (ansV Φ)) 154 [(0, rv (t + 1))] [] := by
  unfold wj_X3_steps_154 at hw
  have C := B.1
  have hW := B.2.1
  refine gj_aload_n C dX3_steps_154 0 rfl ?_
  refine gj_dup C dX3_steps_155 (rv_cat _) ?_
  refine tg147 C hW dX3_steps_156 ?_
  refine gj_iconst (v := 1) C dX3_steps_159 rfl ?_
  refine gj_iadd C dX3_steps_160 ?_
  refine tp147 C hW dX3_steps_161 ?_
  refine gt_nmJ (fun J45 eJ45 => ?_)
  have hw := hw J45 eJ45
  refine gj_goto (tgt := 103) C dX3_steps_164 rfl ?_
  exact hX103 _ _ hw

def wf_X3_steps_103 (Φ : (Nat → Nat → Int32) → Int64 → Prop) (X103 : (Nat → Nat → Int32) → Int64 → Prop) (J : Nat → Nat → Int32) (lw : Int64) : Prop :=
(wp_X3_byteAt (J 0 18) (fun r38 J36 l37 => (wp_X3_isLetter r38 (fun r41 J39 l40 => (if r41 = 0 then (∀ J43 : Nat → Nat → Int32, J43 = u2 J39 0 19 1 → wj_X3_steps_278 Φ J43 l40) else (if 6 ≤ ((J39 0 18) - (J39 0 20)) then wj_X3_steps_154 Φ X103 J39 l40 else (wp_X3_byteAt (J39 0 18) (fun r48 J46 l47 => (∀ w49 : Int64, w49 = ((l40 <<< ((5 : Int32).toInt64 &&& 63)) ||| (Int32.toInt64 (r48 - 96))) → wj_X3_steps_154 Φ X103 J46 w49)) J39 l40)))) J36 l37)) J lw)
def wl_X3_steps_103 (Φ : (Nat → Nat → Int32) → Int64 → Prop) (J : Nat → Nat → Int32) (lw : Int64) : Prop := ∀ X103 : (Nat → Nat → Int32) → Int64 → Prop, (∀ J lw, wf_X3_steps_103 Φ X103 J lw → X103 J lw) → X103 J lw
theorem wk_X3_steps_103 {g : Gm} {d : TD} {t : Nat} (B : BdT g d prog_11_method_13_code 2 none 1 21) (Φ : (Nat → Nat → Int32) → Int64 → Prop) (X103 : (Nat → Nat → Int32) → Int64 → Prop) (hX103 : ∀ J lw, X103 J lw → GJ g 2 (TP d t J lw (gs g).heap) 0 (TQ g d t (ansV Φ)) 103 [(0, rv (t + 1))] []) (J : Nat → Nat → Int32) (lw : Int64) (hw : wf_X3_steps_103 Φ X103 J lw) : GJ g 2 (TP d t J lw (gs g).heap) 0 (TQ g d t (ansV Φ)) 103 [(0, rv (t + 1))] [] := by
  unfold wf_X3_steps_103 at hw
  have C := B.1
  have hW := B.2.1
  refine gj_aload_n C dX3_steps_103 0 rfl ?_
  refine gj_aload_n C dX3_steps_104 0 rfl ?_
  refine tg147 C hW dX3_steps_105 ?_
  refine tc_X3_byteAt B hw (Nat.le_of_ble_eq_true rfl) (Nat.le_of_ble_eq_true rfl) (Nat.le_of_ble_eq_true rfl) dX3_steps_108 (fun r38 J36 l37 hw => ?_)
  refine tc_X3_isLetter B hw (Nat.le_of_ble_eq_true rfl) (Nat.le_of_ble_eq_true rfl) (Nat.le_of_ble_eq_true rfl) dX3_steps_111 (fun r41 J39 l40 br41 hw => ?_)
  refine gj_if_eq (tgt := 167) C dX3_steps_114 rfl (fun c42 => ?_) (fun c42 => ?_)
  · have hw := it_t hw c42
    refine gj_aload_n C dX3_steps_167 0 rfl ?_
    refine gj_iconst (v := 1) C dX3_steps_168 rfl ?_
    refine tp164 C hW dX3_steps_169 ?_
    refine gt_nmJ (fun J43 eJ43 => ?_)
    have hw := hw J43 eJ43
    refine gj_goto (tgt := 278) C dX3_steps_172 rfl ?_
    exact wq_X3_steps_278 B _ _ _ hw
  · have hw := it_f hw c42
    refine gj_aload_n C dX3_steps_117 0 rfl ?_
    refine tg147 C hW dX3_steps_118 ?_
    refine gj_aload_n C dX3_steps_121 0 rfl ?_
    refine tg154 C hW dX3_steps_122 ?_
    refine gj_isub C dX3_steps_125 ?_
    refine gj_bipush (v := 6) C dX3_steps_126 rfl ?_
    refine gj_icmp_ge (tgt := 154) C dX3_steps_128 rfl (fun c44 => ?_) (fun c44 => ?_)
    · have hw := it_t hw c44
      exact wq_X3_steps_154 B _ _ hX103 _ _ hw
    · have hw := it_f hw c44
      refine gj_aload_n C dX3_steps_131 0 rfl ?_
      refine gj_aload_n C dX3_steps_132 0 rfl ?_
      refine tg157 C hW dX3_steps_133 ?_
      refine gj_iconst (v := 5) C dX3_steps_136 rfl ?_
      refine gj_lshl C dX3_steps_137 ?_
      refine gj_aload_n C dX3_steps_138 0 rfl ?_
      refine gj_aload_n C dX3_steps_139 0 rfl ?_
      refine tg147 C hW dX3_steps_140 ?_
      refine tc_X3_byteAt B hw (Nat.le_of_ble_eq_true rfl) (Nat.le_of_ble_eq_true rfl) (Nat.le_of_ble_eq_true rfl) dX3_steps_143 (fun r48 J46 l47 hw => ?_)
      refine gj_bipush (v := 96) C dX3_steps_146 rfl ?_
      refine gj_isub C dX3_steps_148 ?_
      refine gj_i2l C dX3_steps_149 ?_
      refine gj_lor C dX3_steps_150 ?_
      refine tp157 C hW dX3_steps_151 ?_
      refine gt_nml (fun w49 ew49 => ?_)
      have hw := hw w49 ew49
      exact wq_X3_steps_154 B _ _ hX103 _ _ hw

theorem wq_X3_steps_103 {g : Gm} {d : TD} {t : Nat} (B : BdT g d prog_11_method_13_code 2 none 1 21) (Φ : (Nat → Nat → Int32) → Int64 → Prop) (J : Nat → Nat → Int32) (lw : Int64) (hw : wl_X3_steps_103 Φ J lw) : GJ g 2 (TP d t J lw (gs g).heap) 0 (TQ g d t (ansV Φ)) 103 [(0, rv (t + 1))] [] :=
  hw (fun J lw => GJ g 2 (TP d t J lw (gs g).heap) 0 (TQ g d t (ansV Φ)) 103 [(0, rv (t + 1))] []) (fun J lw h => wk_X3_steps_103 B Φ (fun J lw => GJ g 2 (TP d t J lw (gs g).heap) 0 (TQ g d t (ansV Φ)) 103 [(0, rv (t + 1))] []) (fun J lw h => h) J lw h)
def wj_X3_steps_50 (Φ : (Nat → Nat → Int32) → Int64 → Prop) (J : Nat → Nat → Int32) (lw : Int64) : Prop :=
(∀ J2 : Nat → Nat → Int32, J2 = u2 J 0 20 (J 0 18) → (∀ w3 : Int64, w3 = 0 → (∀ J4 : Nat → Nat → Int32, J4 = u2 J2 0 22 0 → (wp_X3_byteAt (J4 0 18) (fun r7 J5 l6 => (if (J5 0 18) < (J5 0 17) then (wp_X3_isLetter r7 (fun r11 J9 l10 => (if r11 = 0 then (wp_X3_isDigit r7 (fun r15 J13 l14 => (if r15 = 0 then (∀ J17 : Nat → Nat → Int32, J17 = u2 J13 0 18 ((J13 0 18) + 1) → (∀ x18 : Int32, x18 = (if r7 = 59 then 3 else 4) → (∀ J20 : Nat → Nat → Int32, J20 = u2 J17 0 19 x18 → wj_X3_steps_278 Φ J20 l14))) else wl_X3_steps_182 Φ J13 l14)) J9 l10) else wl_X3_steps_103 Φ J9 l10)) J5 l6) else (∀ J50 : Nat → Nat → Int32, J50 = u2 J5 0 19 0 → wj_X3_steps_278 Φ J50 l6))) J4 w3))))
theorem wq_X3_steps_50 {g : Gm} {d : TD} {t : Nat} (B : BdT g d prog_11_method_13_code 2 none 1 21) (Φ : (Nat → Nat → Int32) → Int64 → Prop) (J : Nat → Nat → Int32) (lw : Int64) (hw : wj_X3_steps_50 Φ J lw) : GJ g 2 (TP d t J lw (gs g).heap) 0 (TQ g d t (ansV Φ)) 50 [(0, rv (t + 1))] [] := by
  unfold wj_X3_steps_50 at hw
  have C := B.1
  have hW := B.2.1
  refine gj_aload_n C dX3_steps_50 0 rfl ?_
  refine gj_aload_n C dX3_steps_51 0 rfl ?_
  refine tg147 C hW dX3_steps_52 ?_
  refine tp154 C hW dX3_steps_55 ?_
  refine gt_nmJ (fun J2 eJ2 => ?_)
  have hw := hw J2 eJ2
  refine gj_aload_n C dX3_steps_58 0 rfl ?_
  refine gj_lconst (v := 0) C dX3_steps_59 rfl ?_
  refine tp157 C hW dX3_steps_60 ?_
  refine gt_nml (fun w3 ew3 => ?_)
  have hw := hw w3 ew3
  refine gj_aload_n C dX3_steps_63 0 rfl ?_
  refine gj_iconst (v := 0) C dX3_steps_64 rfl ?_
  refine tp161 C hW dX3_steps_65 ?_
  refine gt_nmJ (fun J4 eJ4 => ?_)
  have hw := hw J4 eJ4
  refine gj_aload_n C dX3_steps_68 0 rfl ?_
  refine gj_aload_n C dX3_steps_69 0 rfl ?_
  refine tg147 C hW dX3_steps_70 ?_
  refine tc_X3_byteAt B hw (Nat.le_of_ble_eq_true rfl) (Nat.le_of_ble_eq_true rfl) (Nat.le_of_ble_eq_true rfl) dX3_steps_73 (fun r7 J5 l6 hw => ?_)
  refine gj_istore_n (lc' := [(1, .int r7), (0, rv (t + 1))]) C dX3_steps_76 (Nat.le_of_ble_eq_true rfl) rfl ?_
  refine gj_aload_n C dX3_steps_77 1 rfl ?_
  refine tg147 C hW dX3_steps_78 ?_
  refine gj_aload_n C dX3_steps_81 1 rfl ?_
  refine tg144 C hW dX3_steps_82 ?_
  refine gj_icmp_lt (tgt := 96) C dX3_steps_85 rfl (fun c8 => ?_) (fun c8 => ?_)
  · have hw := it_t hw c8
    refine gj_iload_n C dX3_steps_96 0 rfl ?_
    refine tc_X3_isLetter B hw (Nat.le_of_ble_eq_true rfl) (Nat.le_of_ble_eq_true rfl) (Nat.le_of_ble_eq_true rfl) dX3_steps_97 (fun r11 J9 l10 br11 hw => ?_)
    refine gj_if_eq (tgt := 175) C dX3_steps_100 rfl (fun c12 => ?_) (fun c12 => ?_)
    · have hw := it_t hw c12
      refine gj_iload_n C dX3_steps_175 0 rfl ?_
      refine tc_X3_isDigit B hw (Nat.le_of_ble_eq_true rfl) (Nat.le_of_ble_eq_true rfl) (Nat.le_of_ble_eq_true rfl) dX3_steps_176 (fun r15 J13 l14 br15 hw => ?_)
      refine gj_if_eq (tgt := 253) C dX3_steps_179 rfl (fun c16 => ?_) (fun c16 => ?_)
      · have hw := it_t hw c16
        refine gj_aload_n C dX3_steps_253 1 rfl ?_
        refine gj_dup C dX3_steps_254 (rv_cat _) ?_
        refine tg147 C hW dX3_steps_255 ?_
        refine gj_iconst (v := 1) C dX3_steps_258 rfl ?_
        refine gj_iadd C dX3_steps_259 ?_
        refine tp147 C hW dX3_steps_260 ?_
        refine gt_nmJ (fun J17 eJ17 => ?_)
        have hw := hw J17 eJ17
        refine gj_aload_n C dX3_steps_263 1 rfl ?_
        refine gj_iload_n C dX3_steps_264 0 rfl ?_
        refine gj_bipush (v := 59) C dX3_steps_265 rfl ?_
        have key : ∀ x18 : Int32, x18 = (if r7 = 59 then 3 else 4) → GJ g 2 (TP d t J17 l14 (gs g).heap) 0 (TQ g d t (ansV Φ)) 275 [(1, .int r7), (0, rv (t + 1))] [.int x18, rv (t + 1)] → GJ g 2 (TP d t J17 l14 (gs g).heap) 0 (TQ g d t (ansV Φ)) 267 [(1, .int r7), (0, rv (t + 1))] [.int 59, .int r7, rv (t + 1)] := by
          intro x18 ex18 kk
          refine gj_icmp_ne (tgt := 274) C dX3_steps_267 rfl (fun c19 => ?_) (fun c19 => ?_)
          · refine gj_iconst (v := 4) C dX3_steps_274 rfl ?_
            rw [if_neg c19] at ex18
            subst ex18
            exact kk
          · refine gj_iconst (v := 3) C dX3_steps_270 rfl ?_
            refine gj_goto (tgt := 275) C dX3_steps_271 rfl ?_
            rw [if_pos c19] at ex18
            subst ex18
            exact kk
        obtain ⟨x18, ex18⟩ : ∃ x18 : Int32, x18 = (if r7 = 59 then 3 else 4) := ⟨_, rfl⟩
        refine key x18 ex18 ?_
        have hw := hw x18 ex18
        clear key
        refine tp164 C hW dX3_steps_275 ?_
        refine gt_nmJ (fun J20 eJ20 => ?_)
        have hw := hw J20 eJ20
        refine gj_sub (lc' := [(0, rv (t + 1))]) [1] rfl ?_
        exact wq_X3_steps_278 B _ _ _ hw
      · have hw := it_f hw c16
        refine gj_sub (lc' := [(0, rv (t + 1))]) [1] rfl ?_
        exact wq_X3_steps_182 B _ _ _ hw
    · have hw := it_f hw c12
      refine gj_sub (lc' := [(0, rv (t + 1))]) [1] rfl ?_
      exact wq_X3_steps_103 B _ _ _ hw
  · have hw := it_f hw c8
    refine gj_aload_n C dX3_steps_88 1 rfl ?_
    refine gj_iconst (v := 0) C dX3_steps_89 rfl ?_
    refine tp164 C hW dX3_steps_90 ?_
    refine gt_nmJ (fun J50 eJ50 => ?_)
    have hw := hw J50 eJ50
    refine gj_goto (tgt := 278) C dX3_steps_93 rfl ?_
    refine gj_sub (lc' := [(0, rv (t + 1))]) [1] rfl ?_
    exact wq_X3_steps_278 B _ _ _ hw

def wj_X3_steps_37 (Φ : (Nat → Nat → Int32) → Int64 → Prop) (X0 : (Nat → Nat → Int32) → Int64 → Prop) (J : Nat → Nat → Int32) (lw : Int64) : Prop :=
(∀ J55 : Nat → Nat → Int32, J55 = u2 J 0 18 ((J 0 18) + 1) → X0 J55 lw)
theorem wq_X3_steps_37 {g : Gm} {d : TD} {t : Nat} (B : BdT g d prog_11_method_13_code 2 none 1 21) (Φ : (Nat → Nat → Int32) → Int64 → Prop) (X0 : (Nat → Nat → Int32) → Int64 → Prop) (hX0 : ∀ J lw, X0 J lw → GJ g 2 (TP d t J lw (gs g).heap) 0 (TQ g d t (ansV Φ)) 0 [(0, rv (t + 1))] []) (J : Nat → Nat → Int32) (lw : Int64) (hw : wj_X3_steps_37 Φ X0 J lw) : GJ g 2 (TP d t J lw (gs g).heap) 0 (TQ g d t (ansV Φ)) 37 [(0, rv (t + 1))] [] := by
  unfold wj_X3_steps_37 at hw
  have C := B.1
  have hW := B.2.1
  refine gj_aload_n C dX3_steps_37 0 rfl ?_
  refine gj_dup C dX3_steps_38 (rv_cat _) ?_
  refine tg147 C hW dX3_steps_39 ?_
  refine gj_iconst (v := 1) C dX3_steps_42 rfl ?_
  refine gj_iadd C dX3_steps_43 ?_
  refine tp147 C hW dX3_steps_44 ?_
  refine gt_nmJ (fun J55 eJ55 => ?_)
  have hw := hw J55 eJ55
  refine gj_goto (tgt := 0) C dX3_steps_47 rfl ?_
  exact hX0 _ _ hw

def wf_X3_steps_0 (Φ : (Nat → Nat → Int32) → Int64 → Prop) (X0 : (Nat → Nat → Int32) → Int64 → Prop) (J : Nat → Nat → Int32) (lw : Int64) : Prop :=
(if (J 0 17) ≤ (J 0 18) then wj_X3_steps_50 Φ J lw else (wp_X3_byteAt (J 0 18) (fun r53 J51 l52 => (if r53 = 32 then wj_X3_steps_37 Φ X0 J51 l52 else (wp_X3_byteAt (J51 0 18) (fun r58 J56 l57 => (if r58 = 10 then wj_X3_steps_37 Φ X0 J56 l57 else wj_X3_steps_50 Φ J56 l57)) J51 l52))) J lw))
def wl_X3_steps_0 (Φ : (Nat → Nat → Int32) → Int64 → Prop) (J : Nat → Nat → Int32) (lw : Int64) : Prop := ∀ X0 : (Nat → Nat → Int32) → Int64 → Prop, (∀ J lw, wf_X3_steps_0 Φ X0 J lw → X0 J lw) → X0 J lw
theorem wk_X3_steps_0 {g : Gm} {d : TD} {t : Nat} (B : BdT g d prog_11_method_13_code 2 none 1 21) (Φ : (Nat → Nat → Int32) → Int64 → Prop) (X0 : (Nat → Nat → Int32) → Int64 → Prop) (hX0 : ∀ J lw, X0 J lw → GJ g 2 (TP d t J lw (gs g).heap) 0 (TQ g d t (ansV Φ)) 0 [(0, rv (t + 1))] []) (J : Nat → Nat → Int32) (lw : Int64) (hw : wf_X3_steps_0 Φ X0 J lw) : GJ g 2 (TP d t J lw (gs g).heap) 0 (TQ g d t (ansV Φ)) 0 [(0, rv (t + 1))] [] := by
  unfold wf_X3_steps_0 at hw
  have C := B.1
  have hW := B.2.1
  refine gj_aload_n C dX3_steps_0 0 rfl ?_
  refine tg147 C hW dX3_steps_1 ?_
  refine gj_aload_n C dX3_steps_4 0 rfl ?_
  refine tg144 C hW dX3_steps_5 ?_
  refine gj_icmp_ge (tgt := 50) C dX3_steps_8 rfl (fun c1 => ?_) (fun c1 => ?_)
  · have hw := it_t hw c1
    exact wq_X3_steps_50 B _ _ _ hw
  · have hw := it_f hw c1
    refine gj_aload_n C dX3_steps_11 0 rfl ?_
    refine gj_aload_n C dX3_steps_12 0 rfl ?_
    refine tg147 C hW dX3_steps_13 ?_
    refine tc_X3_byteAt B hw (Nat.le_of_ble_eq_true rfl) (Nat.le_of_ble_eq_true rfl) (Nat.le_of_ble_eq_true rfl) dX3_steps_16 (fun r53 J51 l52 hw => ?_)
    refine gj_bipush (v := 32) C dX3_steps_19 rfl ?_
    refine gj_icmp_eq (tgt := 37) C dX3_steps_21 rfl (fun c54 => ?_) (fun c54 => ?_)
    · have hw := it_t hw c54
      exact wq_X3_steps_37 B _ _ hX0 _ _ hw
    · have hw := it_f hw c54
      refine gj_aload_n C dX3_steps_24 0 rfl ?_
      refine gj_aload_n C dX3_steps_25 0 rfl ?_
      refine tg147 C hW dX3_steps_26 ?_
      refine tc_X3_byteAt B hw (Nat.le_of_ble_eq_true rfl) (Nat.le_of_ble_eq_true rfl) (Nat.le_of_ble_eq_true rfl) dX3_steps_29 (fun r58 J56 l57 hw => ?_)
      refine gj_bipush (v := 10) C dX3_steps_32 rfl ?_
      refine gj_icmp_ne (tgt := 50) C dX3_steps_34 rfl (fun c59 => ?_) (fun c59 => ?_)
      · have hw := it_f hw c59
        exact wq_X3_steps_50 B _ _ _ hw
      · have hw := it_t hw c59
        exact wq_X3_steps_37 B _ _ hX0 _ _ hw

theorem wq_X3_steps_0 {g : Gm} {d : TD} {t : Nat} (B : BdT g d prog_11_method_13_code 2 none 1 21) (Φ : (Nat → Nat → Int32) → Int64 → Prop) (J : Nat → Nat → Int32) (lw : Int64) (hw : wl_X3_steps_0 Φ J lw) : GJ g 2 (TP d t J lw (gs g).heap) 0 (TQ g d t (ansV Φ)) 0 [(0, rv (t + 1))] [] :=
  hw (fun J lw => GJ g 2 (TP d t J lw (gs g).heap) 0 (TQ g d t (ansV Φ)) 0 [(0, rv (t + 1))] []) (fun J lw h => wk_X3_steps_0 B Φ (fun J lw => GJ g 2 (TP d t J lw (gs g).heap) 0 (TQ g d t (ansV Φ)) 0 [(0, rv (t + 1))] []) (fun J lw h => h) J lw h)
def wp_X3_steps (Φ : (Nat → Nat → Int32) → Int64 → Prop) (J : Nat → Nat → Int32) (lw : Int64) : Prop :=
wl_X3_steps_0 Φ J lw
theorem wk_X3_steps {g : Gm} {d : TD} {t : Nat} (B : BdT g d prog_11_method_13_code 2 none 1 21) (Φ : (Nat → Nat → Int32) → Int64 → Prop) (J : Nat → Nat → Int32) (lw : Int64) (hw : wp_X3_steps Φ J lw) : GJ g 2 (TP d t J lw (gs g).heap) 0 (TQ g d t (ansV Φ)) 0 [(0, rv (t + 1))] [] := by
  unfold wp_X3_steps at hw
  have C := B.1
  have hW := B.2.1
  exact wq_X3_steps_0 B _ _ _ hw

theorem met_X3_steps (l : Launch) {d : TD} {t : Nat} {J : Nat → Nat → Int32} {lw : Int64} {Φ : (Nat → Nat → Int32) → Int64 → Prop} (hw : wp_X3_steps Φ J lw) : MetT l yX3_steps prog_11_method_13_code 2 none 1 21 [.ref t] d t J lw (ansV Φ) :=
  mt_of (by decide +kernel) rfl (Nat.le_of_ble_eq_true rfl) (fun g _ B => wk_X3_steps B _ J lw hw)
theorem tc_X3_steps {g : Gm} {d : TD} {t : Nat} {cc : ByteArray} {nL : Nat} {ret : Option FieldType} {fr lo : Nat} (B : BdT g d cc nL ret fr lo) {J : Nat → Nat → Int32} {lw : Int64} {H0 : Heap} {Q : State → Prop} {pc : Nat} {lc : List (Nat × Value)} {rest : List Value} {Φ : (Nat → Nat → Int32) → Int64 → Prop} (hw : wp_X3_steps Φ J lw) (hf : 2 ≤ fr) (hlo : 42 ≤ lo) (hrest : (rest.map fun v => v.category).sum ≤ 8) (dg : decode cc pc = .ok (.invokevirtual 194, 3)) (k : ∀ J' lw', Φ J' lw' → GJ g nL (TP d t J' lw' H0) 0 Q (pc + 3) lc (rest)) : GJ g nL (TP d t J lw H0) 0 Q pc lc (rv (t + 1) :: rest) :=
  gt_callV (n := 0) (As := []) B (met_X3_steps g.2.1 hw) (lw_V q1425 q1427 qs42 q97 q1428) ⟨rfl, by decide +kernel, by decide +kernel, by decide +kernel⟩ rfl hf hlo ⟨Nat.zero_le _, Nat.zero_le _⟩ rfl hrest dg (fun v J' lw' hp => by obtain ⟨rfl, hp⟩ := hp; exact k J' lw' hp)
/-! isGood()Z -/
def wp_X3_isGood (Φ : Int32 → (Nat → Nat → Int32) → Int64 → Prop) (J : Nat → Nat → Int32) (lw : Int64) : Prop :=
(∀ x1 : Int32, x1 = (if (J 0 14) = 0 then 1 else 0) → Φ x1 J lw)
theorem wk_X3_isGood {g : Gm} {d : TD} {t : Nat} (B : BdT g d prog_11_method_18_code 1 (some .boolean) 0 0) (Φ : Int32 → (Nat → Nat → Int32) → Int64 → Prop) (J : Nat → Nat → Int32) (lw : Int64) (hw : wp_X3_isGood Φ J lw) : GJ g 1 (TP d t J lw (gs g).heap) 0 (TQ g d t (ansZ Φ)) 0 [(0, rv (t + 1))] [] := by
  unfold wp_X3_isGood at hw
  have C := B.1
  have hW := B.2.1
  refine gj_aload_n C dX3_isGood_0 0 rfl ?_
  refine tg187 C hW dX3_isGood_1 ?_
  have key : ∀ x1 : Int32, x1 = (if (J 0 14) = 0 then 1 else 0) → GJ g 1 (TP d t J lw (gs g).heap) 0 (TQ g d t (ansZ Φ)) 12 [(0, rv (t + 1))] [.int x1] → GJ g 1 (TP d t J lw (gs g).heap) 0 (TQ g d t (ansZ Φ)) 4 [(0, rv (t + 1))] [.int (J 0 14)] := by
    intro x1 ex1 kk
    refine gj_if_ne (tgt := 11) C dX3_isGood_4 rfl (fun c2 => ?_) (fun c2 => ?_)
    · refine gj_iconst (v := 0) C dX3_isGood_11 rfl ?_
      rw [if_neg c2] at ex1
      subst ex1
      exact kk
    · refine gj_iconst (v := 1) C dX3_isGood_7 rfl ?_
      refine gj_goto (tgt := 12) C dX3_isGood_8 rfl ?_
      rw [if_pos c2] at ex1
      subst ex1
      exact kk
  obtain ⟨x1, ex1⟩ : ∃ x1 : Int32, x1 = (if (J 0 14) = 0 then 1 else 0) := ⟨_, rfl⟩
  have bx1 : x1 = 0 ∨ x1 = 1 := by rw [ex1]; (repeat' split) <;> simp
  refine key x1 ex1 ?_
  have hw := hw x1 ex1
  clear key
  exact gt_zret B (bx1) hw dX3_isGood_12

theorem met_X3_isGood (l : Launch) {d : TD} {t : Nat} {J : Nat → Nat → Int32} {lw : Int64} {Φ : Int32 → (Nat → Nat → Int32) → Int64 → Prop} (hw : wp_X3_isGood Φ J lw) : MetT l yX3_isGood prog_11_method_18_code 1 (some .boolean) 0 0 [.ref t] d t J lw (ansZ Φ) :=
  mt_of (by decide +kernel) rfl (Nat.le_of_ble_eq_true rfl) (fun g _ B => wk_X3_isGood B _ J lw hw)
theorem tc_X3_isGood {g : Gm} {d : TD} {t : Nat} {cc : ByteArray} {nL : Nat} {ret : Option FieldType} {fr lo : Nat} (B : BdT g d cc nL ret fr lo) {J : Nat → Nat → Int32} {lw : Int64} {H0 : Heap} {Q : State → Prop} {pc : Nat} {lc : List (Nat × Value)} {rest : List Value} {Φ : Int32 → (Nat → Nat → Int32) → Int64 → Prop} (hw : wp_X3_isGood Φ J lw) (hf : 1 ≤ fr) (hlo : 20 ≤ lo) (hrest : (rest.map fun v => v.category).sum ≤ 8) (dg : decode cc pc = .ok (.invokevirtual 190, 3)) (k : ∀ (r : Int32) J' lw', (r = 0 ∨ r = 1) → Φ r J' lw' → GJ g nL (TP d t J' lw' H0) 0 Q (pc + 3) lc (.int r :: rest)) : GJ g nL (TP d t J lw H0) 0 Q pc lc (rv (t + 1) :: rest) :=
  gt_callV (n := 0) (As := []) B (met_X3_isGood g.2.1 hw) (lw_V q1439 q1441 qs44 q97 q1442) ⟨rfl, by decide +kernel, by decide +kernel, by decide +kernel⟩ rfl hf hlo ⟨Nat.zero_le _, Nat.zero_le _⟩ rfl hrest dg (fun v J' lw' hp => by obtain ⟨r, rfl, hb, hp⟩ := hp; exact k r J' lw' hb hp)
/-! spelled(IIIIII)J -/
def wj_X3_spelled_66 (p0 : Int32) (p1 : Int32) (p2 : Int32) (p3 : Int32) (p4 : Int32) (p5 : Int32) (Φ : Int64 → (Nat → Nat → Int32) → Int64 → Prop) (v6 : Int64) (J : Nat → Nat → Int32) (lw : Int64) : Prop :=
(if p5 = 0 then Φ v6 J lw else (∀ x6 : Int64, x6 = ((v6 <<< ((5 : Int32).toInt64 &&& 63)) ||| (Int32.toInt64 (p5 - 96))) → Φ x6 J lw))
theorem wq_X3_spelled_66 {g : Gm} {d : TD} {t : Nat} (B : BdT g d prog_11_method_14_code 8 (some .long) 0 0) (p0 : Int32) (p1 : Int32) (p2 : Int32) (p3 : Int32) (p4 : Int32) (p5 : Int32) (Φ : Int64 → (Nat → Nat → Int32) → Int64 → Prop) (v6 : Int64) (J : Nat → Nat → Int32) (lw : Int64) (hw : wj_X3_spelled_66 p0 p1 p2 p3 p4 p5 Φ v6 J lw) : GJ g 8 (TP d t J lw (gs g).heap) 0 (TQ g d t (ansL Φ)) 66 [(5, .int p5), (6, .long v6)] [] := by
  unfold wj_X3_spelled_66 at hw
  have C := B.1
  have hW := B.2.1
  refine gj_iload C dX3_spelled_66 0 rfl ?_
  refine gj_if_eq (tgt := 84) C dX3_spelled_68 rfl (fun c5 => ?_) (fun c5 => ?_)
  · have hw := it_t hw c5
    refine gj_lload C dX3_spelled_84 1 rfl ?_
    exact gt_lret B hw dX3_spelled_86
  · have hw := it_f hw c5
    refine gj_lload C dX3_spelled_71 1 rfl ?_
    refine gj_iconst (v := 5) C dX3_spelled_73 rfl ?_
    refine gj_lshl C dX3_spelled_74 ?_
    refine gj_iload C dX3_spelled_75 0 rfl ?_
    refine gj_bipush (v := 96) C dX3_spelled_77 rfl ?_
    refine gj_isub C dX3_spelled_79 ?_
    refine gj_i2l C dX3_spelled_80 ?_
    refine gj_lor C dX3_spelled_81 ?_
    refine gj_topl (fun x6 ex6 => ?_)
    have hw := hw x6 ex6
    refine gj_lstore (lc' := [(6, .long x6), (5, .int p5)]) C dX3_spelled_82 (Nat.le_of_ble_eq_true rfl) rfl ?_
    refine gj_lload C dX3_spelled_84 0 rfl ?_
    exact gt_lret B hw dX3_spelled_86

def wj_X3_spelled_48 (p0 : Int32) (p1 : Int32) (p2 : Int32) (p3 : Int32) (p4 : Int32) (p5 : Int32) (Φ : Int64 → (Nat → Nat → Int32) → Int64 → Prop) (v6 : Int64) (J : Nat → Nat → Int32) (lw : Int64) : Prop :=
(if p4 = 0 then wj_X3_spelled_66 p0 p1 p2 p3 p4 p5 Φ v6 J lw else (∀ x7 : Int64, x7 = ((v6 <<< ((5 : Int32).toInt64 &&& 63)) ||| (Int32.toInt64 (p4 - 96))) → wj_X3_spelled_66 p0 p1 p2 p3 p4 p5 Φ x7 J lw))
theorem wq_X3_spelled_48 {g : Gm} {d : TD} {t : Nat} (B : BdT g d prog_11_method_14_code 8 (some .long) 0 0) (p0 : Int32) (p1 : Int32) (p2 : Int32) (p3 : Int32) (p4 : Int32) (p5 : Int32) (Φ : Int64 → (Nat → Nat → Int32) → Int64 → Prop) (v6 : Int64) (J : Nat → Nat → Int32) (lw : Int64) (hw : wj_X3_spelled_48 p0 p1 p2 p3 p4 p5 Φ v6 J lw) : GJ g 8 (TP d t J lw (gs g).heap) 0 (TQ g d t (ansL Φ)) 48 [(4, .int p4), (5, .int p5), (6, .long v6)] [] := by
  unfold wj_X3_spelled_48 at hw
  have C := B.1
  have hW := B.2.1
  refine gj_iload C dX3_spelled_48 0 rfl ?_
  refine gj_if_eq (tgt := 66) C dX3_spelled_50 rfl (fun c4 => ?_) (fun c4 => ?_)
  · have hw := it_t hw c4
    refine gj_sub (lc' := [(5, .int p5), (6, .long v6)]) [1, 2] rfl ?_
    exact wq_X3_spelled_66 B _ _ _ _ _ _ _ _ _ _ hw
  · have hw := it_f hw c4
    refine gj_lload C dX3_spelled_53 2 rfl ?_
    refine gj_iconst (v := 5) C dX3_spelled_55 rfl ?_
    refine gj_lshl C dX3_spelled_56 ?_
    refine gj_iload C dX3_spelled_57 0 rfl ?_
    refine gj_bipush (v := 96) C dX3_spelled_59 rfl ?_
    refine gj_isub C dX3_spelled_61 ?_
    refine gj_i2l C dX3_spelled_62 ?_
    refine gj_lor C dX3_spelled_63 ?_
    refine gj_topl (fun x7 ex7 => ?_)
    have hw := hw x7 ex7
    refine gj_lstore (lc' := [(6, .long x7), (4, .int p4), (5, .int p5)]) C dX3_spelled_64 (Nat.le_of_ble_eq_true rfl) rfl ?_
    refine gj_sub (lc' := [(5, .int p5), (6, .long x7)]) [2, 0] rfl ?_
    exact wq_X3_spelled_66 B _ _ _ _ _ _ _ _ _ _ hw

def wj_X3_spelled_32 (p0 : Int32) (p1 : Int32) (p2 : Int32) (p3 : Int32) (p4 : Int32) (p5 : Int32) (Φ : Int64 → (Nat → Nat → Int32) → Int64 → Prop) (v6 : Int64) (J : Nat → Nat → Int32) (lw : Int64) : Prop :=
(if p3 = 0 then wj_X3_spelled_48 p0 p1 p2 p3 p4 p5 Φ v6 J lw else (∀ x8 : Int64, x8 = ((v6 <<< ((5 : Int32).toInt64 &&& 63)) ||| (Int32.toInt64 (p3 - 96))) → wj_X3_spelled_48 p0 p1 p2 p3 p4 p5 Φ x8 J lw))
theorem wq_X3_spelled_32 {g : Gm} {d : TD} {t : Nat} (B : BdT g d prog_11_method_14_code 8 (some .long) 0 0) (p0 : Int32) (p1 : Int32) (p2 : Int32) (p3 : Int32) (p4 : Int32) (p5 : Int32) (Φ : Int64 → (Nat → Nat → Int32) → Int64 → Prop) (v6 : Int64) (J : Nat → Nat → Int32) (lw : Int64) (hw : wj_X3_spelled_32 p0 p1 p2 p3 p4 p5 Φ v6 J lw) : GJ g 8 (TP d t J lw (gs g).heap) 0 (TQ g d t (ansL Φ)) 32 [(3, .int p3), (4, .int p4), (5, .int p5), (6, .long v6)] [] := by
  unfold wj_X3_spelled_32 at hw
  have C := B.1
  have hW := B.2.1
  refine gj_iload_n C dX3_spelled_32 0 rfl ?_
  refine gj_if_eq (tgt := 48) C dX3_spelled_33 rfl (fun c3 => ?_) (fun c3 => ?_)
  · have hw := it_t hw c3
    refine gj_sub (lc' := [(4, .int p4), (5, .int p5), (6, .long v6)]) [1, 2, 3] rfl ?_
    exact wq_X3_spelled_48 B _ _ _ _ _ _ _ _ _ _ hw
  · have hw := it_f hw c3
    refine gj_lload C dX3_spelled_36 3 rfl ?_
    refine gj_iconst (v := 5) C dX3_spelled_38 rfl ?_
    refine gj_lshl C dX3_spelled_39 ?_
    refine gj_iload_n C dX3_spelled_40 0 rfl ?_
    refine gj_bipush (v := 96) C dX3_spelled_41 rfl ?_
    refine gj_isub C dX3_spelled_43 ?_
    refine gj_i2l C dX3_spelled_44 ?_
    refine gj_lor C dX3_spelled_45 ?_
    refine gj_topl (fun x8 ex8 => ?_)
    have hw := hw x8 ex8
    refine gj_lstore (lc' := [(6, .long x8), (3, .int p3), (4, .int p4), (5, .int p5)]) C dX3_spelled_46 (Nat.le_of_ble_eq_true rfl) rfl ?_
    refine gj_sub (lc' := [(4, .int p4), (5, .int p5), (6, .long x8)]) [2, 3, 0] rfl ?_
    exact wq_X3_spelled_48 B _ _ _ _ _ _ _ _ _ _ hw

def wp_X3_spelled (p0 : Int32) (p1 : Int32) (p2 : Int32) (p3 : Int32) (p4 : Int32) (p5 : Int32) (Φ : Int64 → (Nat → Nat → Int32) → Int64 → Prop) (J : Nat → Nat → Int32) (lw : Int64) : Prop :=
(∀ x1 : Int64, x1 = ((((Int32.toInt64 p0) - 96) <<< ((5 : Int32).toInt64 &&& 63)) ||| (Int32.toInt64 (p1 - 96))) → (if p2 = 0 then wj_X3_spelled_32 p0 p1 p2 p3 p4 p5 Φ x1 J lw else (∀ x9 : Int64, x9 = ((x1 <<< ((5 : Int32).toInt64 &&& 63)) ||| (Int32.toInt64 (p2 - 96))) → wj_X3_spelled_32 p0 p1 p2 p3 p4 p5 Φ x9 J lw)))
theorem wk_X3_spelled {g : Gm} {d : TD} {t : Nat} (B : BdT g d prog_11_method_14_code 8 (some .long) 0 0) (p0 : Int32) (p1 : Int32) (p2 : Int32) (p3 : Int32) (p4 : Int32) (p5 : Int32) (Φ : Int64 → (Nat → Nat → Int32) → Int64 → Prop) (J : Nat → Nat → Int32) (lw : Int64) (hw : wp_X3_spelled p0 p1 p2 p3 p4 p5 Φ J lw) : GJ g 8 (TP d t J lw (gs g).heap) 0 (TQ g d t (ansL Φ)) 0 [(0, .int p0), (1, .int p1), (2, .int p2), (3, .int p3), (4, .int p4), (5, .int p5)] [] := by
  unfold wp_X3_spelled at hw
  have C := B.1
  have hW := B.2.1
  refine gj_iload_n C dX3_spelled_0 0 rfl ?_
  refine gj_i2l C dX3_spelled_1 ?_
  refine gj_ldc2 (v := 96) C q1457 dX3_spelled_2 ?_
  refine gj_lsub C dX3_spelled_5 ?_
  refine gj_iconst (v := 5) C dX3_spelled_6 rfl ?_
  refine gj_lshl C dX3_spelled_7 ?_
  refine gj_iload_n C dX3_spelled_8 1 rfl ?_
  refine gj_bipush (v := 96) C dX3_spelled_9 rfl ?_
  refine gj_isub C dX3_spelled_11 ?_
  refine gj_i2l C dX3_spelled_12 ?_
  refine gj_lor C dX3_spelled_13 ?_
  refine gj_topl (fun x1 ex1 => ?_)
  have hw := hw x1 ex1
  refine gj_lstore (lc' := [(6, .long x1), (0, .int p0), (1, .int p1), (2, .int p2), (3, .int p3), (4, .int p4), (5, .int p5)]) C dX3_spelled_14 (Nat.le_of_ble_eq_true rfl) rfl ?_
  refine gj_iload_n C dX3_spelled_16 3 rfl ?_
  refine gj_if_eq (tgt := 32) C dX3_spelled_17 rfl (fun c2 => ?_) (fun c2 => ?_)
  · have hw := it_t hw c2
    refine gj_sub (lc' := [(3, .int p3), (4, .int p4), (5, .int p5), (6, .long x1)]) [4, 5, 6, 0] rfl ?_
    exact wq_X3_spelled_32 B _ _ _ _ _ _ _ _ _ _ hw
  · have hw := it_f hw c2
    refine gj_lload C dX3_spelled_20 0 rfl ?_
    refine gj_iconst (v := 5) C dX3_spelled_22 rfl ?_
    refine gj_lshl C dX3_spelled_23 ?_
    refine gj_iload_n C dX3_spelled_24 3 rfl ?_
    refine gj_bipush (v := 96) C dX3_spelled_25 rfl ?_
    refine gj_isub C dX3_spelled_27 ?_
    refine gj_i2l C dX3_spelled_28 ?_
    refine gj_lor C dX3_spelled_29 ?_
    refine gj_topl (fun x9 ex9 => ?_)
    have hw := hw x9 ex9
    refine gj_lstore (lc' := [(6, .long x9), (0, .int p0), (1, .int p1), (2, .int p2), (3, .int p3), (4, .int p4), (5, .int p5)]) C dX3_spelled_30 (Nat.le_of_ble_eq_true rfl) rfl ?_
    refine gj_sub (lc' := [(3, .int p3), (4, .int p4), (5, .int p5), (6, .long x9)]) [4, 5, 6, 0] rfl ?_
    exact wq_X3_spelled_32 B _ _ _ _ _ _ _ _ _ _ hw

theorem met_X3_spelled (l : Launch) {d : TD} {t : Nat} {J : Nat → Nat → Int32} {lw : Int64} {p0 : Int32} {p1 : Int32} {p2 : Int32} {p3 : Int32} {p4 : Int32} {p5 : Int32} {Φ : Int64 → (Nat → Nat → Int32) → Int64 → Prop} (hw : wp_X3_spelled p0 p1 p2 p3 p4 p5 Φ J lw) : MetT l yX3_spelled prog_11_method_14_code 8 (some .long) 0 0 [.int p0, .int p1, .int p2, .int p3, .int p4, .int p5] d t J lw (ansL Φ) :=
  mt_of (by decide +kernel) rfl (Nat.le_of_ble_eq_true rfl) (fun g _ B => wk_X3_spelled B _ _ _ _ _ _ _ J lw hw)
theorem tc_X3_spelled {g : Gm} {d : TD} {t : Nat} {cc : ByteArray} {nL : Nat} {ret : Option FieldType} {fr lo : Nat} (B : BdT g d cc nL ret fr lo) {J : Nat → Nat → Int32} {lw : Int64} {H0 : Heap} {Q : State → Prop} {pc : Nat} {lc : List (Nat × Value)} {rest : List Value} {p0 : Int32} {p1 : Int32} {p2 : Int32} {p3 : Int32} {p4 : Int32} {p5 : Int32} {Φ : Int64 → (Nat → Nat → Int32) → Int64 → Prop} (hw : wp_X3_spelled p0 p1 p2 p3 p4 p5 Φ J lw) (hf : 1 ≤ fr) (hlo : 27 ≤ lo) (hrest : (rest.map fun v => v.category).sum ≤ 8) (dg : decode cc pc = .ok (.invokestatic 179, 3)) (k : ∀ (r : Int64) J' lw', Φ r J' lw' → GJ g nL (TP d t J' lw' H0) 0 Q (pc + 3) lc (.long r :: rest)) : GJ g nL (TP d t J lw H0) 0 Q pc lc (.int p5 :: .int p4 :: .int p3 :: .int p2 :: .int p1 :: .int p0 :: rest) :=
  gt_callS (n := 6) (As := [.int p0, .int p1, .int p2, .int p3, .int p4, .int p5]) B (met_X3_spelled g.2.1 hw) (lw_S q1454 q1455 q97 q1456) ⟨by decide +kernel, by decide +kernel, by decide +kernel⟩ rfl hf hlo ⟨Nat.zero_le _, Nat.zero_le _⟩ rfl hrest dg (fun v J' lw' hp => by obtain ⟨r, rfl, hp⟩ := hp; exact k r J' lw' hp)
/-! letters(I)J -/
def wp_X3_letters (p0 : Int32) (Φ : Int64 → (Nat → Nat → Int32) → Int64 → Prop) (J : Nat → Nat → Int32) (lw : Int64) : Prop :=
(if p0 = 0 then (wp_X3_spelled 111 117 116 0 0 0 (fun r4 J2 l3 => Φ r4 J2 l3) J lw) else (if p0 = 1 then (wp_X3_spelled 97 115 108 101 101 112 (fun r8 J6 l7 => Φ r8 J6 l7) J lw) else (if p0 = 2 then (wp_X3_spelled 99 114 111 115 115 0 (fun r12 J10 l11 => Φ r12 J10 l11) J lw) else (if p0 = 3 then (wp_X3_spelled 99 97 108 109 0 0 (fun r16 J14 l15 => Φ r16 J14 l15) J lw) else (if p0 = 4 then (wp_X3_spelled 97 116 0 0 0 0 (fun r20 J18 l19 => Φ r20 J18 l19) J lw) else (if p0 = 5 then (wp_X3_spelled 110 111 110 101 0 0 (fun r24 J22 l23 => Φ r24 J22 l23) J lw) else (if p0 = 6 then (wp_X3_spelled 108 101 102 116 0 0 (fun r28 J26 l27 => Φ r28 J26 l27) J lw) else (if p0 = 7 then (wp_X3_spelled 114 105 103 104 116 0 (fun r32 J30 l31 => Φ r32 J30 l31) J lw) else (if p0 = 8 then (wp_X3_spelled 98 111 116 104 0 0 (fun r36 J34 l35 => Φ r36 J34 l35) J lw) else (if p0 = 9 then (wp_X3_spelled 114 111 111 109 0 0 (fun r40 J38 l39 => Φ r40 J38 l39) J lw) else (if p0 = 10 then (wp_X3_spelled 108 111 100 103 101 114 (fun r44 J42 l43 => Φ r44 J42 l43) J lw) else (if p0 = 11 then (wp_X3_spelled 102 105 110 100 101 114 (fun r48 J46 l47 => Φ r48 J46 l47) J lw) else (if p0 = 12 then (wp_X3_spelled 109 97 121 0 0 0 (fun r52 J50 l51 => Φ r52 J50 l51) J lw) else (wp_X3_spelled 108 97 119 0 0 0 (fun r55 J53 l54 => Φ r55 J53 l54) J lw))))))))))))))
theorem wk_X3_letters {g : Gm} {d : TD} {t : Nat} (B : BdT g d prog_11_method_15_code 1 (some .long) 1 27) (p0 : Int32) (Φ : Int64 → (Nat → Nat → Int32) → Int64 → Prop) (J : Nat → Nat → Int32) (lw : Int64) (hw : wp_X3_letters p0 Φ J lw) : GJ g 1 (TP d t J lw (gs g).heap) 0 (TQ g d t (ansL Φ)) 0 [(0, .int p0)] [] := by
  unfold wp_X3_letters at hw
  have C := B.1
  have hW := B.2.1
  refine gj_iload_n C dX3_letters_0 0 rfl ?_
  by_cases c1 : p0 = 0
  · have hw := it_t hw c1
    refine gj_tabIn (v := 0) (tgt := 68) C dX3_letters_1 c1 (by decide) (by decide) (by rfl) rfl ?_
    refine gj_bipush (v := 111) C dX3_letters_68 rfl ?_
    refine gj_bipush (v := 117) C dX3_letters_70 rfl ?_
    refine gj_bipush (v := 116) C dX3_letters_72 rfl ?_
    refine gj_iconst (v := 0) C dX3_letters_74 rfl ?_
    refine gj_iconst (v := 0) C dX3_letters_75 rfl ?_
    refine gj_iconst (v := 0) C dX3_letters_76 rfl ?_
    refine tc_X3_spelled B hw (Nat.le_of_ble_eq_true rfl) (Nat.le_of_ble_eq_true rfl) (Nat.le_of_ble_eq_true rfl) dX3_letters_77 (fun r4 J2 l3 hw => ?_)
    exact gt_lret B hw dX3_letters_80
  have hw := it_f hw c1
  by_cases c5 : p0 = 1
  · have hw := it_t hw c5
    refine gj_tabIn (v := 1) (tgt := 81) C dX3_letters_1 c5 (by decide) (by decide) (by rfl) rfl ?_
    refine gj_bipush (v := 97) C dX3_letters_81 rfl ?_
    refine gj_bipush (v := 115) C dX3_letters_83 rfl ?_
    refine gj_bipush (v := 108) C dX3_letters_85 rfl ?_
    refine gj_bipush (v := 101) C dX3_letters_87 rfl ?_
    refine gj_bipush (v := 101) C dX3_letters_89 rfl ?_
    refine gj_bipush (v := 112) C dX3_letters_91 rfl ?_
    refine tc_X3_spelled B hw (Nat.le_of_ble_eq_true rfl) (Nat.le_of_ble_eq_true rfl) (Nat.le_of_ble_eq_true rfl) dX3_letters_93 (fun r8 J6 l7 hw => ?_)
    exact gt_lret B hw dX3_letters_96
  have hw := it_f hw c5
  by_cases c9 : p0 = 2
  · have hw := it_t hw c9
    refine gj_tabIn (v := 2) (tgt := 97) C dX3_letters_1 c9 (by decide) (by decide) (by rfl) rfl ?_
    refine gj_bipush (v := 99) C dX3_letters_97 rfl ?_
    refine gj_bipush (v := 114) C dX3_letters_99 rfl ?_
    refine gj_bipush (v := 111) C dX3_letters_101 rfl ?_
    refine gj_bipush (v := 115) C dX3_letters_103 rfl ?_
    refine gj_bipush (v := 115) C dX3_letters_105 rfl ?_
    refine gj_iconst (v := 0) C dX3_letters_107 rfl ?_
    refine tc_X3_spelled B hw (Nat.le_of_ble_eq_true rfl) (Nat.le_of_ble_eq_true rfl) (Nat.le_of_ble_eq_true rfl) dX3_letters_108 (fun r12 J10 l11 hw => ?_)
    exact gt_lret B hw dX3_letters_111
  have hw := it_f hw c9
  by_cases c13 : p0 = 3
  · have hw := it_t hw c13
    refine gj_tabIn (v := 3) (tgt := 112) C dX3_letters_1 c13 (by decide) (by decide) (by rfl) rfl ?_
    refine gj_bipush (v := 99) C dX3_letters_112 rfl ?_
    refine gj_bipush (v := 97) C dX3_letters_114 rfl ?_
    refine gj_bipush (v := 108) C dX3_letters_116 rfl ?_
    refine gj_bipush (v := 109) C dX3_letters_118 rfl ?_
    refine gj_iconst (v := 0) C dX3_letters_120 rfl ?_
    refine gj_iconst (v := 0) C dX3_letters_121 rfl ?_
    refine tc_X3_spelled B hw (Nat.le_of_ble_eq_true rfl) (Nat.le_of_ble_eq_true rfl) (Nat.le_of_ble_eq_true rfl) dX3_letters_122 (fun r16 J14 l15 hw => ?_)
    exact gt_lret B hw dX3_letters_125
  have hw := it_f hw c13
  by_cases c17 : p0 = 4
  · have hw := it_t hw c17
    refine gj_tabIn (v := 4) (tgt := 126) C dX3_letters_1 c17 (by decide) (by decide) (by rfl) rfl ?_
    refine gj_bipush (v := 97) C dX3_letters_126 rfl ?_
    refine gj_bipush (v := 116) C dX3_letters_128 rfl ?_
    refine gj_iconst (v := 0) C dX3_letters_130 rfl ?_
    refine gj_iconst (v := 0) C dX3_letters_131 rfl ?_
    refine gj_iconst (v := 0) C dX3_letters_132 rfl ?_
    refine gj_iconst (v := 0) C dX3_letters_133 rfl ?_
    refine tc_X3_spelled B hw (Nat.le_of_ble_eq_true rfl) (Nat.le_of_ble_eq_true rfl) (Nat.le_of_ble_eq_true rfl) dX3_letters_134 (fun r20 J18 l19 hw => ?_)
    exact gt_lret B hw dX3_letters_137
  have hw := it_f hw c17
  by_cases c21 : p0 = 5
  · have hw := it_t hw c21
    refine gj_tabIn (v := 5) (tgt := 138) C dX3_letters_1 c21 (by decide) (by decide) (by rfl) rfl ?_
    refine gj_bipush (v := 110) C dX3_letters_138 rfl ?_
    refine gj_bipush (v := 111) C dX3_letters_140 rfl ?_
    refine gj_bipush (v := 110) C dX3_letters_142 rfl ?_
    refine gj_bipush (v := 101) C dX3_letters_144 rfl ?_
    refine gj_iconst (v := 0) C dX3_letters_146 rfl ?_
    refine gj_iconst (v := 0) C dX3_letters_147 rfl ?_
    refine tc_X3_spelled B hw (Nat.le_of_ble_eq_true rfl) (Nat.le_of_ble_eq_true rfl) (Nat.le_of_ble_eq_true rfl) dX3_letters_148 (fun r24 J22 l23 hw => ?_)
    exact gt_lret B hw dX3_letters_151
  have hw := it_f hw c21
  by_cases c25 : p0 = 6
  · have hw := it_t hw c25
    refine gj_tabIn (v := 6) (tgt := 152) C dX3_letters_1 c25 (by decide) (by decide) (by rfl) rfl ?_
    refine gj_bipush (v := 108) C dX3_letters_152 rfl ?_
    refine gj_bipush (v := 101) C dX3_letters_154 rfl ?_
    refine gj_bipush (v := 102) C dX3_letters_156 rfl ?_
    refine gj_bipush (v := 116) C dX3_letters_158 rfl ?_
    refine gj_iconst (v := 0) C dX3_letters_160 rfl ?_
    refine gj_iconst (v := 0) C dX3_letters_161 rfl ?_
    refine tc_X3_spelled B hw (Nat.le_of_ble_eq_true rfl) (Nat.le_of_ble_eq_true rfl) (Nat.le_of_ble_eq_true rfl) dX3_letters_162 (fun r28 J26 l27 hw => ?_)
    exact gt_lret B hw dX3_letters_165
  have hw := it_f hw c25
  by_cases c29 : p0 = 7
  · have hw := it_t hw c29
    refine gj_tabIn (v := 7) (tgt := 166) C dX3_letters_1 c29 (by decide) (by decide) (by rfl) rfl ?_
    refine gj_bipush (v := 114) C dX3_letters_166 rfl ?_
    refine gj_bipush (v := 105) C dX3_letters_168 rfl ?_
    refine gj_bipush (v := 103) C dX3_letters_170 rfl ?_
    refine gj_bipush (v := 104) C dX3_letters_172 rfl ?_
    refine gj_bipush (v := 116) C dX3_letters_174 rfl ?_
    refine gj_iconst (v := 0) C dX3_letters_176 rfl ?_
    refine tc_X3_spelled B hw (Nat.le_of_ble_eq_true rfl) (Nat.le_of_ble_eq_true rfl) (Nat.le_of_ble_eq_true rfl) dX3_letters_177 (fun r32 J30 l31 hw => ?_)
    exact gt_lret B hw dX3_letters_180
  have hw := it_f hw c29
  by_cases c33 : p0 = 8
  · have hw := it_t hw c33
    refine gj_tabIn (v := 8) (tgt := 181) C dX3_letters_1 c33 (by decide) (by decide) (by rfl) rfl ?_
    refine gj_bipush (v := 98) C dX3_letters_181 rfl ?_
    refine gj_bipush (v := 111) C dX3_letters_183 rfl ?_
    refine gj_bipush (v := 116) C dX3_letters_185 rfl ?_
    refine gj_bipush (v := 104) C dX3_letters_187 rfl ?_
    refine gj_iconst (v := 0) C dX3_letters_189 rfl ?_
    refine gj_iconst (v := 0) C dX3_letters_190 rfl ?_
    refine tc_X3_spelled B hw (Nat.le_of_ble_eq_true rfl) (Nat.le_of_ble_eq_true rfl) (Nat.le_of_ble_eq_true rfl) dX3_letters_191 (fun r36 J34 l35 hw => ?_)
    exact gt_lret B hw dX3_letters_194
  have hw := it_f hw c33
  by_cases c37 : p0 = 9
  · have hw := it_t hw c37
    refine gj_tabIn (v := 9) (tgt := 195) C dX3_letters_1 c37 (by decide) (by decide) (by rfl) rfl ?_
    refine gj_bipush (v := 114) C dX3_letters_195 rfl ?_
    refine gj_bipush (v := 111) C dX3_letters_197 rfl ?_
    refine gj_bipush (v := 111) C dX3_letters_199 rfl ?_
    refine gj_bipush (v := 109) C dX3_letters_201 rfl ?_
    refine gj_iconst (v := 0) C dX3_letters_203 rfl ?_
    refine gj_iconst (v := 0) C dX3_letters_204 rfl ?_
    refine tc_X3_spelled B hw (Nat.le_of_ble_eq_true rfl) (Nat.le_of_ble_eq_true rfl) (Nat.le_of_ble_eq_true rfl) dX3_letters_205 (fun r40 J38 l39 hw => ?_)
    exact gt_lret B hw dX3_letters_208
  have hw := it_f hw c37
  by_cases c41 : p0 = 10
  · have hw := it_t hw c41
    refine gj_tabIn (v := 10) (tgt := 209) C dX3_letters_1 c41 (by decide) (by decide) (by rfl) rfl ?_
    refine gj_bipush (v := 108) C dX3_letters_209 rfl ?_
    refine gj_bipush (v := 111) C dX3_letters_211 rfl ?_
    refine gj_bipush (v := 100) C dX3_letters_213 rfl ?_
    refine gj_bipush (v := 103) C dX3_letters_215 rfl ?_
    refine gj_bipush (v := 101) C dX3_letters_217 rfl ?_
    refine gj_bipush (v := 114) C dX3_letters_219 rfl ?_
    refine tc_X3_spelled B hw (Nat.le_of_ble_eq_true rfl) (Nat.le_of_ble_eq_true rfl) (Nat.le_of_ble_eq_true rfl) dX3_letters_221 (fun r44 J42 l43 hw => ?_)
    exact gt_lret B hw dX3_letters_224
  have hw := it_f hw c41
  by_cases c45 : p0 = 11
  · have hw := it_t hw c45
    refine gj_tabIn (v := 11) (tgt := 225) C dX3_letters_1 c45 (by decide) (by decide) (by rfl) rfl ?_
    refine gj_bipush (v := 102) C dX3_letters_225 rfl ?_
    refine gj_bipush (v := 105) C dX3_letters_227 rfl ?_
    refine gj_bipush (v := 110) C dX3_letters_229 rfl ?_
    refine gj_bipush (v := 100) C dX3_letters_231 rfl ?_
    refine gj_bipush (v := 101) C dX3_letters_233 rfl ?_
    refine gj_bipush (v := 114) C dX3_letters_235 rfl ?_
    refine tc_X3_spelled B hw (Nat.le_of_ble_eq_true rfl) (Nat.le_of_ble_eq_true rfl) (Nat.le_of_ble_eq_true rfl) dX3_letters_237 (fun r48 J46 l47 hw => ?_)
    exact gt_lret B hw dX3_letters_240
  have hw := it_f hw c45
  by_cases c49 : p0 = 12
  · have hw := it_t hw c49
    refine gj_tabIn (v := 12) (tgt := 241) C dX3_letters_1 c49 (by decide) (by decide) (by rfl) rfl ?_
    refine gj_bipush (v := 109) C dX3_letters_241 rfl ?_
    refine gj_bipush (v := 97) C dX3_letters_243 rfl ?_
    refine gj_bipush (v := 121) C dX3_letters_245 rfl ?_
    refine gj_iconst (v := 0) C dX3_letters_247 rfl ?_
    refine gj_iconst (v := 0) C dX3_letters_248 rfl ?_
    refine gj_iconst (v := 0) C dX3_letters_249 rfl ?_
    refine tc_X3_spelled B hw (Nat.le_of_ble_eq_true rfl) (Nat.le_of_ble_eq_true rfl) (Nat.le_of_ble_eq_true rfl) dX3_letters_250 (fun r52 J50 l51 hw => ?_)
    exact gt_lret B hw dX3_letters_253
  have hw := it_f hw c49
  refine gj_tabOut (tgt := 254) C dX3_letters_1 (by have := lv_neT (a := 0) c1 rfl; have := lv_neT (a := 1) c5 rfl; have := lv_neT (a := 2) c9 rfl; have := lv_neT (a := 3) c13 rfl; have := lv_neT (a := 4) c17 rfl; have := lv_neT (a := 5) c21 rfl; have := lv_neT (a := 6) c25 rfl; have := lv_neT (a := 7) c29 rfl; have := lv_neT (a := 8) c33 rfl; have := lv_neT (a := 9) c37 rfl; have := lv_neT (a := 10) c41 rfl; have := lv_neT (a := 11) c45 rfl; have := lv_neT (a := 12) c49 rfl; omega) rfl ?_
  refine gj_bipush (v := 108) C dX3_letters_254 rfl ?_
  refine gj_bipush (v := 97) C dX3_letters_256 rfl ?_
  refine gj_bipush (v := 119) C dX3_letters_258 rfl ?_
  refine gj_iconst (v := 0) C dX3_letters_260 rfl ?_
  refine gj_iconst (v := 0) C dX3_letters_261 rfl ?_
  refine gj_iconst (v := 0) C dX3_letters_262 rfl ?_
  refine tc_X3_spelled B hw (Nat.le_of_ble_eq_true rfl) (Nat.le_of_ble_eq_true rfl) (Nat.le_of_ble_eq_true rfl) dX3_letters_263 (fun r55 J53 l54 hw => ?_)
  exact gt_lret B hw dX3_letters_266

theorem met_X3_letters (l : Launch) {d : TD} {t : Nat} {J : Nat → Nat → Int32} {lw : Int64} {p0 : Int32} {Φ : Int64 → (Nat → Nat → Int32) → Int64 → Prop} (hw : wp_X3_letters p0 Φ J lw) : MetT l yX3_letters prog_11_method_15_code 1 (some .long) 1 27 [.int p0] d t J lw (ansL Φ) :=
  mt_of (by decide +kernel) rfl (Nat.le_of_ble_eq_true rfl) (fun g _ B => wk_X3_letters B _ _ J lw hw)
theorem tc_X3_letters {g : Gm} {d : TD} {t : Nat} {cc : ByteArray} {nL : Nat} {ret : Option FieldType} {fr lo : Nat} (B : BdT g d cc nL ret fr lo) {J : Nat → Nat → Int32} {lw : Int64} {H0 : Heap} {Q : State → Prop} {pc : Nat} {lc : List (Nat × Value)} {rest : List Value} {p0 : Int32} {Φ : Int64 → (Nat → Nat → Int32) → Int64 → Prop} (hw : wp_X3_letters p0 Φ J lw) (hf : 2 ≤ fr) (hlo : 47 ≤ lo) (hrest : (rest.map fun v => v.category).sum ≤ 8) (dg : decode cc pc = .ok (.invokestatic 183, 3)) (k : ∀ (r : Int64) J' lw', Φ r J' lw' → GJ g nL (TP d t J' lw' H0) 0 Q (pc + 3) lc (.long r :: rest)) : GJ g nL (TP d t J lw H0) 0 Q pc lc (.int p0 :: rest) :=
  gt_callS (n := 1) (As := [.int p0]) B (met_X3_letters g.2.1 hw) (lw_S q1451 q1452 q97 q1453) ⟨by decide +kernel, by decide +kernel, by decide +kernel⟩ rfl hf hlo ⟨Nat.zero_le _, Nat.zero_le _⟩ rfl hrest dg (fun v J' lw' hp => by obtain ⟨r, rfl, hp⟩ := hp; exact k r J' lw' hp)
/-! is(I)Z -/
def wp_X3_is (p1 : Int32) (Φ : Int32 → (Nat → Nat → Int32) → Int64 → Prop) (J : Nat → Nat → Int32) (lw : Int64) : Prop :=
(if (J 0 19) = 1 then (if 7 ≤ (J 0 21) then Φ 0 J lw else (wp_X3_letters p1 (fun r5 J3 l4 => (∀ x6 : Int32, x6 = (if (lg_cmp lw r5) = 0 then 1 else 0) → Φ x6 J3 l4)) J lw)) else Φ 0 J lw)
theorem wk_X3_is {g : Gm} {d : TD} {t : Nat} (B : BdT g d prog_11_method_16_code 2 (some .boolean) 2 47) (p1 : Int32) (Φ : Int32 → (Nat → Nat → Int32) → Int64 → Prop) (J : Nat → Nat → Int32) (lw : Int64) (hw : wp_X3_is p1 Φ J lw) : GJ g 2 (TP d t J lw (gs g).heap) 0 (TQ g d t (ansZ Φ)) 0 [(0, rv (t + 1)), (1, .int p1)] [] := by
  unfold wp_X3_is at hw
  have C := B.1
  have hW := B.2.1
  refine gj_aload_n C dX3_is_0 0 rfl ?_
  refine tg164 C hW dX3_is_1 ?_
  refine gj_iconst (v := 1) C dX3_is_4 rfl ?_
  refine gj_icmp_ne (tgt := 33) C dX3_is_5 rfl (fun c1 => ?_) (fun c1 => ?_)
  · have hw := it_f hw c1
    refine gj_iconst (v := 0) C dX3_is_33 rfl ?_
    exact gt_zret B (Or.inl rfl) hw dX3_is_34
  · have hw := it_t hw c1
    refine gj_aload_n C dX3_is_8 0 rfl ?_
    refine tg174 C hW dX3_is_9 ?_
    refine gj_bipush (v := 7) C dX3_is_12 rfl ?_
    refine gj_icmp_ge (tgt := 33) C dX3_is_14 rfl (fun c2 => ?_) (fun c2 => ?_)
    · have hw := it_t hw c2
      refine gj_iconst (v := 0) C dX3_is_33 rfl ?_
      exact gt_zret B (Or.inl rfl) hw dX3_is_34
    · have hw := it_f hw c2
      refine gj_aload_n C dX3_is_17 0 rfl ?_
      refine tg157 C hW dX3_is_18 ?_
      refine gj_iload_n C dX3_is_21 1 rfl ?_
      refine tc_X3_letters B hw (Nat.le_of_ble_eq_true rfl) (Nat.le_of_ble_eq_true rfl) (Nat.le_of_ble_eq_true rfl) dX3_is_22 (fun r5 J3 l4 hw => ?_)
      refine gj_lcmp C dX3_is_25 ?_
      have key : ∀ x6 : Int32, x6 = (if (lg_cmp lw r5) = 0 then 1 else 0) → GJ g 2 (TP d t J3 l4 (gs g).heap) 0 (TQ g d t (ansZ Φ)) 34 [(0, rv (t + 1)), (1, .int p1)] [.int x6] → GJ g 2 (TP d t J3 l4 (gs g).heap) 0 (TQ g d t (ansZ Φ)) 26 [(0, rv (t + 1)), (1, .int p1)] [.int (lg_cmp lw r5)] := by
        intro x6 ex6 kk
        refine gj_if_ne (tgt := 33) C dX3_is_26 rfl (fun c7 => ?_) (fun c7 => ?_)
        · refine gj_iconst (v := 0) C dX3_is_33 rfl ?_
          rw [if_neg c7] at ex6
          subst ex6
          exact kk
        · refine gj_iconst (v := 1) C dX3_is_29 rfl ?_
          refine gj_goto (tgt := 34) C dX3_is_30 rfl ?_
          rw [if_pos c7] at ex6
          subst ex6
          exact kk
      obtain ⟨x6, ex6⟩ : ∃ x6 : Int32, x6 = (if (lg_cmp lw r5) = 0 then 1 else 0) := ⟨_, rfl⟩
      have bx6 : x6 = 0 ∨ x6 = 1 := by rw [ex6]; (repeat' split) <;> simp
      refine key x6 ex6 ?_
      have hw := hw x6 ex6
      clear key
      exact gt_zret B (bx6) hw dX3_is_34

theorem met_X3_is (l : Launch) {d : TD} {t : Nat} {J : Nat → Nat → Int32} {lw : Int64} {p1 : Int32} {Φ : Int32 → (Nat → Nat → Int32) → Int64 → Prop} (hw : wp_X3_is p1 Φ J lw) : MetT l yX3_is prog_11_method_16_code 2 (some .boolean) 2 47 [.ref t, .int p1] d t J lw (ansZ Φ) :=
  mt_of (by decide +kernel) rfl (Nat.le_of_ble_eq_true rfl) (fun g _ B => wk_X3_is B _ _ J lw hw)
theorem tc_X3_is {g : Gm} {d : TD} {t : Nat} {cc : ByteArray} {nL : Nat} {ret : Option FieldType} {fr lo : Nat} (B : BdT g d cc nL ret fr lo) {J : Nat → Nat → Int32} {lw : Int64} {H0 : Heap} {Q : State → Prop} {pc : Nat} {lc : List (Nat × Value)} {rest : List Value} {p1 : Int32} {Φ : Int32 → (Nat → Nat → Int32) → Int64 → Prop} (hw : wp_X3_is p1 Φ J lw) (hf : 3 ≤ fr) (hlo : 68 ≤ lo) (hrest : (rest.map fun v => v.category).sum ≤ 8) (dg : decode cc pc = .ok (.invokevirtual 203, 3)) (k : ∀ (r : Int32) J' lw', (r = 0 ∨ r = 1) → Φ r J' lw' → GJ g nL (TP d t J' lw' H0) 0 Q (pc + 3) lc (.int r :: rest)) : GJ g nL (TP d t J lw H0) 0 Q pc lc (.int p1 :: rv (t + 1) :: rest) :=
  gt_callV (n := 1) (As := [.int p1]) B (met_X3_is g.2.1 hw) (lw_V q1447 q1449 qs46 q97 q1450) ⟨rfl, by decide +kernel, by decide +kernel, by decide +kernel⟩ rfl hf hlo ⟨Nat.zero_le _, Nat.zero_le _⟩ rfl hrest dg (fun v J' lw' hp => by obtain ⟨r, rfl, hb, hp⟩ := hp; exact k r J' lw' hb hp)
/-! wrong(I)V -/
def wp_X3_wrong (p1 : Int32) (Φ : (Nat → Nat → Int32) → Int64 → Prop) (J : Nat → Nat → Int32) (lw : Int64) : Prop :=
(if (J 0 14) = 0 then (∀ J2 : Nat → Nat → Int32, J2 = u2 J 0 14 p1 → (∀ J3 : Nat → Nat → Int32, J3 = u2 J2 0 15 (J2 0 20) → Φ J3 lw)) else Φ J lw)
theorem wk_X3_wrong {g : Gm} {d : TD} {t : Nat} (B : BdT g d prog_11_method_17_code 2 none 0 0) (p1 : Int32) (Φ : (Nat → Nat → Int32) → Int64 → Prop) (J : Nat → Nat → Int32) (lw : Int64) (hw : wp_X3_wrong p1 Φ J lw) : GJ g 2 (TP d t J lw (gs g).heap) 0 (TQ g d t (ansV Φ)) 0 [(0, rv (t + 1)), (1, .int p1)] [] := by
  unfold wp_X3_wrong at hw
  have C := B.1
  have hW := B.2.1
  refine gj_aload_n C dX3_wrong_0 0 rfl ?_
  refine tg187 C hW dX3_wrong_1 ?_
  refine gj_if_eq (tgt := 8) C dX3_wrong_4 rfl (fun c1 => ?_) (fun c1 => ?_)
  · have hw := it_t hw c1
    refine gj_aload_n C dX3_wrong_8 0 rfl ?_
    refine gj_iload_n C dX3_wrong_9 1 rfl ?_
    refine tp187 C hW dX3_wrong_10 ?_
    refine gt_nmJ (fun J2 eJ2 => ?_)
    have hw := hw J2 eJ2
    refine gj_aload_n C dX3_wrong_13 0 rfl ?_
    refine gj_aload_n C dX3_wrong_14 0 rfl ?_
    refine tg154 C hW dX3_wrong_15 ?_
    refine tp34 C hW dX3_wrong_18 ?_
    refine gt_nmJ (fun J3 eJ3 => ?_)
    have hw := hw J3 eJ3
    exact gt_vret B hw dX3_wrong_21
  · have hw := it_f hw c1
    exact gt_vret B hw dX3_wrong_7

theorem met_X3_wrong (l : Launch) {d : TD} {t : Nat} {J : Nat → Nat → Int32} {lw : Int64} {p1 : Int32} {Φ : (Nat → Nat → Int32) → Int64 → Prop} (hw : wp_X3_wrong p1 Φ J lw) : MetT l yX3_wrong prog_11_method_17_code 2 none 0 0 [.ref t, .int p1] d t J lw (ansV Φ) :=
  mt_of (by decide +kernel) rfl (Nat.le_of_ble_eq_true rfl) (fun g _ B => wk_X3_wrong B _ _ J lw hw)
theorem tc_X3_wrong {g : Gm} {d : TD} {t : Nat} {cc : ByteArray} {nL : Nat} {ret : Option FieldType} {fr lo : Nat} (B : BdT g d cc nL ret fr lo) {J : Nat → Nat → Int32} {lw : Int64} {H0 : Heap} {Q : State → Prop} {pc : Nat} {lc : List (Nat × Value)} {rest : List Value} {p1 : Int32} {Φ : (Nat → Nat → Int32) → Int64 → Prop} (hw : wp_X3_wrong p1 Φ J lw) (hf : 1 ≤ fr) (hlo : 21 ≤ lo) (hrest : (rest.map fun v => v.category).sum ≤ 8) (dg : decode cc pc = .ok (.invokevirtual 197, 3)) (k : ∀ J' lw', Φ J' lw' → GJ g nL (TP d t J' lw' H0) 0 Q (pc + 3) lc (rest)) : GJ g nL (TP d t J lw H0) 0 Q pc lc (.int p1 :: rv (t + 1) :: rest) :=
  gt_callV (n := 1) (As := [.int p1]) B (met_X3_wrong g.2.1 hw) (lw_V q1458 q1460 qs47 q97 q1461) ⟨rfl, by decide +kernel, by decide +kernel, by decide +kernel⟩ rfl hf hlo ⟨Nat.zero_le _, Nat.zero_le _⟩ rfl hrest dg (fun v J' lw' hp => by obtain ⟨rfl, hp⟩ := hp; exact k J' lw' hp)
/-! number(II)I -/
def wj_X3_number_54 (p1 : Int32) (p2 : Int32) (Φ : Int32 → (Nat → Nat → Int32) → Int64 → Prop) (J : Nat → Nat → Int32) (lw : Int64) : Prop :=
(∀ x10 : Int32, x10 = (J 0 22) → (wp_X3_isGood (fun r13 J11 l12 => (if r13 = 0 then Φ x10 J11 l12 else (wp_X3_steps (fun J15 l16 => Φ x10 J15 l16) J11 l12))) J lw))
theorem wq_X3_number_54 {g : Gm} {d : TD} {t : Nat} (B : BdT g d prog_11_method_20_code 4 (some .int) 2 42) (p1 : Int32) (p2 : Int32) (Φ : Int32 → (Nat → Nat → Int32) → Int64 → Prop) (J : Nat → Nat → Int32) (lw : Int64) (hw : wj_X3_number_54 p1 p2 Φ J lw) : GJ g 4 (TP d t J lw (gs g).heap) 0 (TQ g d t (ansI Φ)) 54 [(0, rv (t + 1))] [] := by
  unfold wj_X3_number_54 at hw
  have C := B.1
  have hW := B.2.1
  refine gj_aload_n C dX3_number_54 0 rfl ?_
  refine tg161 C hW dX3_number_55 ?_
  refine gj_topi (fun x10 ex10 => ?_)
  have hw := hw x10 ex10
  refine gj_istore_n (lc' := [(3, .int x10), (0, rv (t + 1))]) C dX3_number_58 (Nat.le_of_ble_eq_true rfl) rfl ?_
  refine gj_aload_n C dX3_number_59 1 rfl ?_
  refine tc_X3_isGood B hw (Nat.le_of_ble_eq_true rfl) (Nat.le_of_ble_eq_true rfl) (Nat.le_of_ble_eq_true rfl) dX3_number_60 (fun r13 J11 l12 br13 hw => ?_)
  refine gj_if_eq (tgt := 70) C dX3_number_63 rfl (fun c14 => ?_) (fun c14 => ?_)
  · have hw := it_t hw c14
    refine gj_iload_n C dX3_number_70 0 rfl ?_
    exact gt_iret B hw dX3_number_71
  · have hw := it_f hw c14
    refine gj_aload_n C dX3_number_66 1 rfl ?_
    refine tc_X3_steps B hw (Nat.le_of_ble_eq_true rfl) (Nat.le_of_ble_eq_true rfl) (Nat.le_of_ble_eq_true rfl) dX3_number_67 (fun J15 l16 hw => ?_)
    refine gj_iload_n C dX3_number_70 0 rfl ?_
    exact gt_iret B hw dX3_number_71

def wj_X3_number_49 (p1 : Int32) (p2 : Int32) (Φ : Int32 → (Nat → Nat → Int32) → Int64 → Prop) (J : Nat → Nat → Int32) (lw : Int64) : Prop :=
(wp_X3_wrong 2 (fun J7 l8 => wj_X3_number_54 p1 p2 Φ J7 l8) J lw)
theorem wq_X3_number_49 {g : Gm} {d : TD} {t : Nat} (B : BdT g d prog_11_method_20_code 4 (some .int) 2 42) (p1 : Int32) (p2 : Int32) (Φ : Int32 → (Nat → Nat → Int32) → Int64 → Prop) (J : Nat → Nat → Int32) (lw : Int64) (hw : wj_X3_number_49 p1 p2 Φ J lw) : GJ g 4 (TP d t J lw (gs g).heap) 0 (TQ g d t (ansI Φ)) 49 [(0, rv (t + 1))] [] := by
  unfold wj_X3_number_49 at hw
  have C := B.1
  have hW := B.2.1
  refine gj_aload_n C dX3_number_49 0 rfl ?_
  refine gj_iconst (v := 2) C dX3_number_50 rfl ?_
  refine tc_X3_wrong B hw (Nat.le_of_ble_eq_true rfl) (Nat.le_of_ble_eq_true rfl) (Nat.le_of_ble_eq_true rfl) dX3_number_51 (fun J7 l8 hw => ?_)
  exact wq_X3_number_54 B _ _ _ _ _ hw

def wp_X3_number (p1 : Int32) (p2 : Int32) (Φ : Int32 → (Nat → Nat → Int32) → Int64 → Prop) (J : Nat → Nat → Int32) (lw : Int64) : Prop :=
(wp_X3_isGood (fun r3 J1 l2 => (if r3 = 0 then Φ 0 J1 l2 else (if (J1 0 19) = 2 then (if 3 < (J1 0 21) then wj_X3_number_49 p1 p2 Φ J1 l2 else (if (J1 0 22) < p1 then wj_X3_number_49 p1 p2 Φ J1 l2 else (if (J1 0 22) ≤ p2 then wj_X3_number_54 p1 p2 Φ J1 l2 else wj_X3_number_49 p1 p2 Φ J1 l2))) else (wp_X3_wrong 1 (fun J20 l21 => wj_X3_number_54 p1 p2 Φ J20 l21) J1 l2)))) J lw)
theorem wk_X3_number {g : Gm} {d : TD} {t : Nat} (B : BdT g d prog_11_method_20_code 4 (some .int) 2 42) (p1 : Int32) (p2 : Int32) (Φ : Int32 → (Nat → Nat → Int32) → Int64 → Prop) (J : Nat → Nat → Int32) (lw : Int64) (hw : wp_X3_number p1 p2 Φ J lw) : GJ g 4 (TP d t J lw (gs g).heap) 0 (TQ g d t (ansI Φ)) 0 [(0, rv (t + 1)), (1, .int p1), (2, .int p2)] [] := by
  unfold wp_X3_number at hw
  have C := B.1
  have hW := B.2.1
  refine gj_aload_n C dX3_number_0 0 rfl ?_
  refine tc_X3_isGood B hw (Nat.le_of_ble_eq_true rfl) (Nat.le_of_ble_eq_true rfl) (Nat.le_of_ble_eq_true rfl) dX3_number_1 (fun r3 J1 l2 br3 hw => ?_)
  refine gj_if_ne (tgt := 9) C dX3_number_4 rfl (fun c4 => ?_) (fun c4 => ?_)
  · have hw := it_f hw c4
    refine gj_aload_n C dX3_number_9 0 rfl ?_
    refine tg164 C hW dX3_number_10 ?_
    refine gj_iconst (v := 2) C dX3_number_13 rfl ?_
    refine gj_icmp_eq (tgt := 25) C dX3_number_14 rfl (fun c5 => ?_) (fun c5 => ?_)
    · have hw := it_t hw c5
      refine gj_aload_n C dX3_number_25 0 rfl ?_
      refine tg174 C hW dX3_number_26 ?_
      refine gj_iconst (v := 3) C dX3_number_29 rfl ?_
      refine gj_icmp_gt (tgt := 49) C dX3_number_30 rfl (fun c6 => ?_) (fun c6 => ?_)
      · have hw := it_t hw c6
        refine gj_sub (lc' := [(0, rv (t + 1))]) [0] rfl ?_
        exact wq_X3_number_49 B _ _ _ _ _ hw
      · have hw := it_f hw c6
        refine gj_aload_n C dX3_number_33 0 rfl ?_
        refine tg161 C hW dX3_number_34 ?_
        refine gj_iload_n C dX3_number_37 1 rfl ?_
        refine gj_icmp_lt (tgt := 49) C dX3_number_38 rfl (fun c18 => ?_) (fun c18 => ?_)
        · have hw := it_t hw c18
          refine gj_sub (lc' := [(0, rv (t + 1))]) [0] rfl ?_
          exact wq_X3_number_49 B _ _ _ _ _ hw
        · have hw := it_f hw c18
          refine gj_aload_n C dX3_number_41 0 rfl ?_
          refine tg161 C hW dX3_number_42 ?_
          refine gj_iload_n C dX3_number_45 2 rfl ?_
          refine gj_icmp_le (tgt := 54) C dX3_number_46 rfl (fun c19 => ?_) (fun c19 => ?_)
          · have hw := it_t hw c19
            refine gj_sub (lc' := [(0, rv (t + 1))]) [0] rfl ?_
            exact wq_X3_number_54 B _ _ _ _ _ hw
          · have hw := it_f hw c19
            refine gj_sub (lc' := [(0, rv (t + 1))]) [0] rfl ?_
            exact wq_X3_number_49 B _ _ _ _ _ hw
    · have hw := it_f hw c5
      refine gj_aload_n C dX3_number_17 0 rfl ?_
      refine gj_iconst (v := 1) C dX3_number_18 rfl ?_
      refine tc_X3_wrong B hw (Nat.le_of_ble_eq_true rfl) (Nat.le_of_ble_eq_true rfl) (Nat.le_of_ble_eq_true rfl) dX3_number_19 (fun J20 l21 hw => ?_)
      refine gj_goto (tgt := 54) C dX3_number_22 rfl ?_
      refine gj_sub (lc' := [(0, rv (t + 1))]) [0] rfl ?_
      exact wq_X3_number_54 B _ _ _ _ _ hw
  · have hw := it_t hw c4
    refine gj_iconst (v := 0) C dX3_number_7 rfl ?_
    exact gt_iret B hw dX3_number_8

theorem met_X3_number (l : Launch) {d : TD} {t : Nat} {J : Nat → Nat → Int32} {lw : Int64} {p1 : Int32} {p2 : Int32} {Φ : Int32 → (Nat → Nat → Int32) → Int64 → Prop} (hw : wp_X3_number p1 p2 Φ J lw) : MetT l yX3_number prog_11_method_20_code 4 (some .int) 2 42 [.ref t, .int p1, .int p2] d t J lw (ansI Φ) :=
  mt_of (by decide +kernel) rfl (Nat.le_of_ble_eq_true rfl) (fun g _ B => wk_X3_number B _ _ _ J lw hw)
theorem tc_X3_number {g : Gm} {d : TD} {t : Nat} {cc : ByteArray} {nL : Nat} {ret : Option FieldType} {fr lo : Nat} (B : BdT g d cc nL ret fr lo) {J : Nat → Nat → Int32} {lw : Int64} {H0 : Heap} {Q : State → Prop} {pc : Nat} {lc : List (Nat × Value)} {rest : List Value} {p1 : Int32} {p2 : Int32} {Φ : Int32 → (Nat → Nat → Int32) → Int64 → Prop} (hw : wp_X3_number p1 p2 Φ J lw) (hf : 3 ≤ fr) (hlo : 65 ≤ lo) (hrest : (rest.map fun v => v.category).sum ≤ 8) (dg : decode cc pc = .ok (.invokevirtual 226, 3)) (k : ∀ (r : Int32) J' lw', Φ r J' lw' → GJ g nL (TP d t J' lw' H0) 0 Q (pc + 3) lc (.int r :: rest)) : GJ g nL (TP d t J lw H0) 0 Q pc lc (.int p2 :: .int p1 :: rv (t + 1) :: rest) :=
  gt_callV (n := 2) (As := [.int p1, .int p2]) B (met_X3_number g.2.1 hw) (lw_V q1462 q1464 qs48 q97 q1465) ⟨rfl, by decide +kernel, by decide +kernel, by decide +kernel⟩ rfl hf hlo ⟨Nat.zero_le _, Nat.zero_le _⟩ rfl hrest dg (fun v J' lw' hp => by obtain ⟨r, rfl, hp⟩ := hp; exact k r J' lw' hp)
/-! amongHere(I)Z -/
def wj_X3_amongHere_54 (p1 : Int32) (Φ : Int32 → (Nat → Nat → Int32) → Int64 → Prop) (J : Nat → Nat → Int32) (lw : Int64) : Prop :=
(wp_X3_isGood (fun r10 J8 l9 => Φ r10 J8 l9) J lw)
theorem wq_X3_amongHere_54 {g : Gm} {d : TD} {t : Nat} (B : BdT g d prog_11_method_21_code 2 (some .boolean) 1 21) (p1 : Int32) (Φ : Int32 → (Nat → Nat → Int32) → Int64 → Prop) (J : Nat → Nat → Int32) (lw : Int64) (hw : wj_X3_amongHere_54 p1 Φ J lw) : GJ g 2 (TP d t J lw (gs g).heap) 0 (TQ g d t (ansZ Φ)) 54 [(0, rv (t + 1))] [] := by
  unfold wj_X3_amongHere_54 at hw
  have C := B.1
  have hW := B.2.1
  refine gj_aload_n C dX3_amongHere_54 0 rfl ?_
  refine tc_X3_isGood B hw (Nat.le_of_ble_eq_true rfl) (Nat.le_of_ble_eq_true rfl) (Nat.le_of_ble_eq_true rfl) dX3_amongHere_55 (fun r10 J8 l9 br10 hw => ?_)
  exact gt_zret B (br10) hw dX3_amongHere_58

def wp_X3_amongHere (p1 : Int32) (Φ : Int32 → (Nat → Nat → Int32) → Int64 → Prop) (J : Nat → Nat → Int32) (lw : Int64) : Prop :=
(wp_X3_isGood (fun r3 J1 l2 => (if r3 = 0 then Φ 0 J1 l2 else (if (J1 0 19) = 2 then (if (J1 0 21) ≤ 3 then (if (J1 0 22) < p1 then wj_X3_amongHere_54 p1 Φ J1 l2 else (wp_X3_wrong 3 (fun J11 l12 => wj_X3_amongHere_54 p1 Φ J11 l12) J1 l2)) else (wp_X3_wrong 2 (fun J14 l15 => wj_X3_amongHere_54 p1 Φ J14 l15) J1 l2)) else (wp_X3_wrong 1 (fun J17 l18 => wj_X3_amongHere_54 p1 Φ J17 l18) J1 l2)))) J lw)
theorem wk_X3_amongHere {g : Gm} {d : TD} {t : Nat} (B : BdT g d prog_11_method_21_code 2 (some .boolean) 1 21) (p1 : Int32) (Φ : Int32 → (Nat → Nat → Int32) → Int64 → Prop) (J : Nat → Nat → Int32) (lw : Int64) (hw : wp_X3_amongHere p1 Φ J lw) : GJ g 2 (TP d t J lw (gs g).heap) 0 (TQ g d t (ansZ Φ)) 0 [(0, rv (t + 1)), (1, .int p1)] [] := by
  unfold wp_X3_amongHere at hw
  have C := B.1
  have hW := B.2.1
  refine gj_aload_n C dX3_amongHere_0 0 rfl ?_
  refine tc_X3_isGood B hw (Nat.le_of_ble_eq_true rfl) (Nat.le_of_ble_eq_true rfl) (Nat.le_of_ble_eq_true rfl) dX3_amongHere_1 (fun r3 J1 l2 br3 hw => ?_)
  refine gj_if_ne (tgt := 9) C dX3_amongHere_4 rfl (fun c4 => ?_) (fun c4 => ?_)
  · have hw := it_f hw c4
    refine gj_aload_n C dX3_amongHere_9 0 rfl ?_
    refine tg164 C hW dX3_amongHere_10 ?_
    refine gj_iconst (v := 2) C dX3_amongHere_13 rfl ?_
    refine gj_icmp_eq (tgt := 25) C dX3_amongHere_14 rfl (fun c5 => ?_) (fun c5 => ?_)
    · have hw := it_t hw c5
      refine gj_aload_n C dX3_amongHere_25 0 rfl ?_
      refine tg174 C hW dX3_amongHere_26 ?_
      refine gj_iconst (v := 3) C dX3_amongHere_29 rfl ?_
      refine gj_icmp_le (tgt := 41) C dX3_amongHere_30 rfl (fun c6 => ?_) (fun c6 => ?_)
      · have hw := it_t hw c6
        refine gj_aload_n C dX3_amongHere_41 0 rfl ?_
        refine tg161 C hW dX3_amongHere_42 ?_
        refine gj_iload_n C dX3_amongHere_45 1 rfl ?_
        refine gj_icmp_lt (tgt := 54) C dX3_amongHere_46 rfl (fun c7 => ?_) (fun c7 => ?_)
        · have hw := it_t hw c7
          refine gj_sub (lc' := [(0, rv (t + 1))]) [0] rfl ?_
          exact wq_X3_amongHere_54 B _ _ _ _ hw
        · have hw := it_f hw c7
          refine gj_aload_n C dX3_amongHere_49 0 rfl ?_
          refine gj_iconst (v := 3) C dX3_amongHere_50 rfl ?_
          refine tc_X3_wrong B hw (Nat.le_of_ble_eq_true rfl) (Nat.le_of_ble_eq_true rfl) (Nat.le_of_ble_eq_true rfl) dX3_amongHere_51 (fun J11 l12 hw => ?_)
          refine gj_sub (lc' := [(0, rv (t + 1))]) [0] rfl ?_
          exact wq_X3_amongHere_54 B _ _ _ _ hw
      · have hw := it_f hw c6
        refine gj_aload_n C dX3_amongHere_33 0 rfl ?_
        refine gj_iconst (v := 2) C dX3_amongHere_34 rfl ?_
        refine tc_X3_wrong B hw (Nat.le_of_ble_eq_true rfl) (Nat.le_of_ble_eq_true rfl) (Nat.le_of_ble_eq_true rfl) dX3_amongHere_35 (fun J14 l15 hw => ?_)
        refine gj_goto (tgt := 54) C dX3_amongHere_38 rfl ?_
        refine gj_sub (lc' := [(0, rv (t + 1))]) [0] rfl ?_
        exact wq_X3_amongHere_54 B _ _ _ _ hw
    · have hw := it_f hw c5
      refine gj_aload_n C dX3_amongHere_17 0 rfl ?_
      refine gj_iconst (v := 1) C dX3_amongHere_18 rfl ?_
      refine tc_X3_wrong B hw (Nat.le_of_ble_eq_true rfl) (Nat.le_of_ble_eq_true rfl) (Nat.le_of_ble_eq_true rfl) dX3_amongHere_19 (fun J17 l18 hw => ?_)
      refine gj_goto (tgt := 54) C dX3_amongHere_22 rfl ?_
      refine gj_sub (lc' := [(0, rv (t + 1))]) [0] rfl ?_
      exact wq_X3_amongHere_54 B _ _ _ _ hw
  · have hw := it_t hw c4
    refine gj_iconst (v := 0) C dX3_amongHere_7 rfl ?_
    exact gt_zret B (Or.inl rfl) hw dX3_amongHere_8

theorem met_X3_amongHere (l : Launch) {d : TD} {t : Nat} {J : Nat → Nat → Int32} {lw : Int64} {p1 : Int32} {Φ : Int32 → (Nat → Nat → Int32) → Int64 → Prop} (hw : wp_X3_amongHere p1 Φ J lw) : MetT l yX3_amongHere prog_11_method_21_code 2 (some .boolean) 1 21 [.ref t, .int p1] d t J lw (ansZ Φ) :=
  mt_of (by decide +kernel) rfl (Nat.le_of_ble_eq_true rfl) (fun g _ B => wk_X3_amongHere B _ _ J lw hw)
theorem tc_X3_amongHere {g : Gm} {d : TD} {t : Nat} {cc : ByteArray} {nL : Nat} {ret : Option FieldType} {fr lo : Nat} (B : BdT g d cc nL ret fr lo) {J : Nat → Nat → Int32} {lw : Int64} {H0 : Heap} {Q : State → Prop} {pc : Nat} {lc : List (Nat × Value)} {rest : List Value} {p1 : Int32} {Φ : Int32 → (Nat → Nat → Int32) → Int64 → Prop} (hw : wp_X3_amongHere p1 Φ J lw) (hf : 2 ≤ fr) (hlo : 42 ≤ lo) (hrest : (rest.map fun v => v.category).sum ≤ 8) (dg : decode cc pc = .ok (.invokevirtual 200, 3)) (k : ∀ (r : Int32) J' lw', (r = 0 ∨ r = 1) → Φ r J' lw' → GJ g nL (TP d t J' lw' H0) 0 Q (pc + 3) lc (.int r :: rest)) : GJ g nL (TP d t J lw H0) 0 Q pc lc (.int p1 :: rv (t + 1) :: rest) :=
  gt_callV (n := 1) (As := [.int p1]) B (met_X3_amongHere g.2.1 hw) (lw_V q1470 q1472 qs50 q97 q1473) ⟨rfl, by decide +kernel, by decide +kernel, by decide +kernel⟩ rfl hf hlo ⟨Nat.zero_le _, Nat.zero_le _⟩ rfl hrest dg (fun v J' lw' hp => by obtain ⟨r, rfl, hb, hp⟩ := hp; exact k r J' lw' hb hp)
/-! readsLodger()V -/
def wj_X3_readsLodger_127 (Φ : (Nat → Nat → Int32) → Int64 → Prop) (v1 : Int32) (v2 : Int32) (v3 : Int32) (J : Nat → Nat → Int32) (lw : Int64) : Prop :=
(wp_X3_isGood (fun r32 J30 l31 => (if r32 = 0 then Φ J30 l31 else (vp_in (J30 0 25) (tln 31) ∧ (∀ J35 : Nat → Nat → Int32, J35 = u2 J30 31 (Int32.toNatClampNeg (J30 0 25)) v1 → (vp_in v1 (tln 30) ∧ (∀ J37 : Nat → Nat → Int32, J37 = u2 J35 30 (Int32.toNatClampNeg v1) (J35 0 25) → (∀ x38 : Int32, x38 = (if v3 = 0 then 1 else 0) → (vp_in (2 * (J37 0 25)) (tln 32) ∧ (∀ J41 : Nat → Nat → Int32, J41 = u2 J37 32 (Int32.toNatClampNeg (2 * (J37 0 25))) x38 → (∀ x42 : Int32, x42 = (if v2 = 0 then 1 else 0) → (vp_in ((2 * (J41 0 25)) + 1) (tln 32) ∧ (∀ J45 : Nat → Nat → Int32, J45 = u2 J41 32 (Int32.toNatClampNeg ((2 * (J41 0 25)) + 1)) x42 → (∀ J46 : Nat → Nat → Int32, J46 = u2 J45 0 25 ((J45 0 25) + 1) → Φ J46 l31))))))))))))) J lw)
theorem wq_X3_readsLodger_127 {g : Gm} {d : TD} {t : Nat} (B : BdT g d prog_11_method_24_code 4 none 3 68) (Φ : (Nat → Nat → Int32) → Int64 → Prop) (v1 : Int32) (v2 : Int32) (v3 : Int32) (J : Nat → Nat → Int32) (lw : Int64) (hw : wj_X3_readsLodger_127 Φ v1 v2 v3 J lw) : GJ g 4 (TP d t J lw (gs g).heap) 0 (TQ g d t (ansV Φ)) 127 [(0, rv (t + 1)), (1, .int v1), (2, .int v2), (3, .int v3)] [] := by
  unfold wj_X3_readsLodger_127 at hw
  have C := B.1
  have hW := B.2.1
  refine gj_aload_n C dX3_readsLodger_127 0 rfl ?_
  refine tc_X3_isGood B hw (Nat.le_of_ble_eq_true rfl) (Nat.le_of_ble_eq_true rfl) (Nat.le_of_ble_eq_true rfl) dX3_readsLodger_128 (fun r32 J30 l31 br32 hw => ?_)
  refine gj_if_ne (tgt := 135) C dX3_readsLodger_131 rfl (fun c33 => ?_) (fun c33 => ?_)
  · have hw := it_f hw c33
    refine gj_aload_n C dX3_readsLodger_135 0 rfl ?_
    refine tg47 C hW dX3_readsLodger_136 ?_
    refine gj_aload_n C dX3_readsLodger_139 0 rfl ?_
    refine tg206 C hW dX3_readsLodger_140 ?_
    refine gj_iload_n C dX3_readsLodger_143 1 rfl ?_
    obtain ⟨h34, hw⟩ := hw
    refine gt_iast C hW (by decide) h34 dX3_readsLodger_144 ?_
    refine gt_nmJ (fun J35 eJ35 => ?_)
    have hw := hw J35 eJ35
    refine gj_aload_n C dX3_readsLodger_145 0 rfl ?_
    refine tg44 C hW dX3_readsLodger_146 ?_
    refine gj_iload_n C dX3_readsLodger_149 1 rfl ?_
    refine gj_aload_n C dX3_readsLodger_150 0 rfl ?_
    refine tg206 C hW dX3_readsLodger_151 ?_
    obtain ⟨h36, hw⟩ := hw
    refine gt_iast C hW (by decide) h36 dX3_readsLodger_154 ?_
    refine gt_nmJ (fun J37 eJ37 => ?_)
    have hw := hw J37 eJ37
    refine gj_aload_n C dX3_readsLodger_155 0 rfl ?_
    refine tg50 C hW dX3_readsLodger_156 ?_
    refine gj_iconst (v := 2) C dX3_readsLodger_159 rfl ?_
    refine gj_aload_n C dX3_readsLodger_160 0 rfl ?_
    refine tg206 C hW dX3_readsLodger_161 ?_
    refine gj_imul C dX3_readsLodger_164 ?_
    refine gj_iload_n C dX3_readsLodger_165 3 rfl ?_
    have key : ∀ x38 : Int32, x38 = (if v3 = 0 then 1 else 0) → GJ g 4 (TP d t J37 l31 (gs g).heap) 0 (TQ g d t (ansV Φ)) 174 [(0, rv (t + 1)), (1, .int v1), (2, .int v2), (3, .int v3)] [.int x38, .int (2 * (J37 0 25)), rv (ta t 32)] → GJ g 4 (TP d t J37 l31 (gs g).heap) 0 (TQ g d t (ansV Φ)) 166 [(0, rv (t + 1)), (1, .int v1), (2, .int v2), (3, .int v3)] [.int v3, .int (2 * (J37 0 25)), rv (ta t 32)] := by
      intro x38 ex38 kk
      refine gj_if_eq (tgt := 173) C dX3_readsLodger_166 rfl (fun c39 => ?_) (fun c39 => ?_)
      · refine gj_iconst (v := 1) C dX3_readsLodger_173 rfl ?_
        rw [if_pos c39] at ex38
        subst ex38
        exact kk
      · refine gj_iconst (v := 0) C dX3_readsLodger_169 rfl ?_
        refine gj_goto (tgt := 174) C dX3_readsLodger_170 rfl ?_
        rw [if_neg c39] at ex38
        subst ex38
        exact kk
    obtain ⟨x38, ex38⟩ : ∃ x38 : Int32, x38 = (if v3 = 0 then 1 else 0) := ⟨_, rfl⟩
    have bx38 : x38 = 0 ∨ x38 = 1 := by rw [ex38]; (repeat' split) <;> simp
    refine key x38 ex38 ?_
    have hw := hw x38 ex38
    clear key
    obtain ⟨h40, hw⟩ := hw
    refine gt_iast C hW (by decide) h40 dX3_readsLodger_174 ?_
    refine gt_nmJ (fun J41 eJ41 => ?_)
    have hw := hw J41 eJ41
    refine gj_aload_n C dX3_readsLodger_175 0 rfl ?_
    refine tg50 C hW dX3_readsLodger_176 ?_
    refine gj_iconst (v := 2) C dX3_readsLodger_179 rfl ?_
    refine gj_aload_n C dX3_readsLodger_180 0 rfl ?_
    refine tg206 C hW dX3_readsLodger_181 ?_
    refine gj_imul C dX3_readsLodger_184 ?_
    refine gj_iconst (v := 1) C dX3_readsLodger_185 rfl ?_
    refine gj_iadd C dX3_readsLodger_186 ?_
    refine gj_iload_n C dX3_readsLodger_187 2 rfl ?_
    have key : ∀ x42 : Int32, x42 = (if v2 = 0 then 1 else 0) → GJ g 4 (TP d t J41 l31 (gs g).heap) 0 (TQ g d t (ansV Φ)) 196 [(0, rv (t + 1)), (1, .int v1), (2, .int v2), (3, .int v3)] [.int x42, .int ((2 * (J41 0 25)) + 1), rv (ta t 32)] → GJ g 4 (TP d t J41 l31 (gs g).heap) 0 (TQ g d t (ansV Φ)) 188 [(0, rv (t + 1)), (1, .int v1), (2, .int v2), (3, .int v3)] [.int v2, .int ((2 * (J41 0 25)) + 1), rv (ta t 32)] := by
      intro x42 ex42 kk
      refine gj_if_eq (tgt := 195) C dX3_readsLodger_188 rfl (fun c43 => ?_) (fun c43 => ?_)
      · refine gj_iconst (v := 1) C dX3_readsLodger_195 rfl ?_
        rw [if_pos c43] at ex42
        subst ex42
        exact kk
      · refine gj_iconst (v := 0) C dX3_readsLodger_191 rfl ?_
        refine gj_goto (tgt := 196) C dX3_readsLodger_192 rfl ?_
        rw [if_neg c43] at ex42
        subst ex42
        exact kk
    obtain ⟨x42, ex42⟩ : ∃ x42 : Int32, x42 = (if v2 = 0 then 1 else 0) := ⟨_, rfl⟩
    have bx42 : x42 = 0 ∨ x42 = 1 := by rw [ex42]; (repeat' split) <;> simp
    refine key x42 ex42 ?_
    have hw := hw x42 ex42
    clear key
    obtain ⟨h44, hw⟩ := hw
    refine gt_iast C hW (by decide) h44 dX3_readsLodger_196 ?_
    refine gt_nmJ (fun J45 eJ45 => ?_)
    have hw := hw J45 eJ45
    refine gj_aload_n C dX3_readsLodger_197 0 rfl ?_
    refine gj_dup C dX3_readsLodger_198 (rv_cat _) ?_
    refine tg206 C hW dX3_readsLodger_199 ?_
    refine gj_iconst (v := 1) C dX3_readsLodger_202 rfl ?_
    refine gj_iadd C dX3_readsLodger_203 ?_
    refine tp206 C hW dX3_readsLodger_204 ?_
    refine gt_nmJ (fun J46 eJ46 => ?_)
    have hw := hw J46 eJ46
    exact gt_vret B hw dX3_readsLodger_207
  · have hw := it_t hw c33
    exact gt_vret B hw dX3_readsLodger_134

def wj_X3_readsLodger_123 (Φ : (Nat → Nat → Int32) → Int64 → Prop) (v1 : Int32) (v2 : Int32) (v3 : Int32) (J : Nat → Nat → Int32) (lw : Int64) : Prop :=
(wp_X3_steps (fun J27 l28 => wj_X3_readsLodger_127 Φ v1 v2 v3 J27 l28) J lw)
theorem wq_X3_readsLodger_123 {g : Gm} {d : TD} {t : Nat} (B : BdT g d prog_11_method_24_code 4 none 3 68) (Φ : (Nat → Nat → Int32) → Int64 → Prop) (v1 : Int32) (v2 : Int32) (v3 : Int32) (J : Nat → Nat → Int32) (lw : Int64) (hw : wj_X3_readsLodger_123 Φ v1 v2 v3 J lw) : GJ g 4 (TP d t J lw (gs g).heap) 0 (TQ g d t (ansV Φ)) 123 [(0, rv (t + 1)), (1, .int v1), (2, .int v2), (3, .int v3)] [] := by
  unfold wj_X3_readsLodger_123 at hw
  have C := B.1
  have hW := B.2.1
  refine gj_aload_n C dX3_readsLodger_123 0 rfl ?_
  refine tc_X3_steps B hw (Nat.le_of_ble_eq_true rfl) (Nat.le_of_ble_eq_true rfl) (Nat.le_of_ble_eq_true rfl) dX3_readsLodger_124 (fun J27 l28 hw => ?_)
  exact wq_X3_readsLodger_127 B _ _ _ _ _ _ hw

def wj_X3_readsLodger_114 (Φ : (Nat → Nat → Int32) → Int64 → Prop) (v1 : Int32) (v2 : Int32) (s0 : Int32) (J : Nat → Nat → Int32) (lw : Int64) : Prop :=
(if v2 = 0 then (if s0 = 0 then wj_X3_readsLodger_127 Φ v1 v2 s0 J lw else wj_X3_readsLodger_123 Φ v1 v2 s0 J lw) else wj_X3_readsLodger_123 Φ v1 v2 s0 J lw)
theorem wq_X3_readsLodger_114 {g : Gm} {d : TD} {t : Nat} (B : BdT g d prog_11_method_24_code 4 none 3 68) (Φ : (Nat → Nat → Int32) → Int64 → Prop) (v1 : Int32) (v2 : Int32) (s0 : Int32) (J : Nat → Nat → Int32) (lw : Int64) (hw : wj_X3_readsLodger_114 Φ v1 v2 s0 J lw) : GJ g 4 (TP d t J lw (gs g).heap) 0 (TQ g d t (ansV Φ)) 114 [(0, rv (t + 1)), (1, .int v1), (2, .int v2)] [.int s0] := by
  unfold wj_X3_readsLodger_114 at hw
  have C := B.1
  have hW := B.2.1
  refine gj_istore_n (lc' := [(3, .int s0), (0, rv (t + 1)), (1, .int v1), (2, .int v2)]) C dX3_readsLodger_114 (Nat.le_of_ble_eq_true rfl) rfl ?_
  refine gj_iload_n C dX3_readsLodger_115 3 rfl ?_
  refine gj_if_ne (tgt := 123) C dX3_readsLodger_116 rfl (fun c26 => ?_) (fun c26 => ?_)
  · have hw := it_f hw c26
    refine gj_sub (lc' := [(0, rv (t + 1)), (1, .int v1), (2, .int v2), (3, .int s0)]) [1, 2, 3, 0] rfl ?_
    exact wq_X3_readsLodger_123 B _ _ _ _ _ _ hw
  · have hw := it_t hw c26
    refine gj_iload_n C dX3_readsLodger_119 0 rfl ?_
    refine gj_if_eq (tgt := 127) C dX3_readsLodger_120 rfl (fun c47 => ?_) (fun c47 => ?_)
    · have hw := it_t hw c47
      refine gj_sub (lc' := [(0, rv (t + 1)), (1, .int v1), (2, .int v2), (3, .int s0)]) [1, 2, 3, 0] rfl ?_
      exact wq_X3_readsLodger_127 B _ _ _ _ _ _ hw
    · have hw := it_f hw c47
      refine gj_sub (lc' := [(0, rv (t + 1)), (1, .int v1), (2, .int v2), (3, .int s0)]) [1, 2, 3, 0] rfl ?_
      exact wq_X3_readsLodger_123 B _ _ _ _ _ _ hw

def wj_X3_readsLodger_113 (Φ : (Nat → Nat → Int32) → Int64 → Prop) (v1 : Int32) (v2 : Int32) (J : Nat → Nat → Int32) (lw : Int64) : Prop :=
wj_X3_readsLodger_114 Φ v1 v2 0 J lw
theorem wq_X3_readsLodger_113 {g : Gm} {d : TD} {t : Nat} (B : BdT g d prog_11_method_24_code 4 none 3 68) (Φ : (Nat → Nat → Int32) → Int64 → Prop) (v1 : Int32) (v2 : Int32) (J : Nat → Nat → Int32) (lw : Int64) (hw : wj_X3_readsLodger_113 Φ v1 v2 J lw) : GJ g 4 (TP d t J lw (gs g).heap) 0 (TQ g d t (ansV Φ)) 113 [(0, rv (t + 1)), (1, .int v1), (2, .int v2)] [] := by
  unfold wj_X3_readsLodger_113 at hw
  have C := B.1
  have hW := B.2.1
  refine gj_iconst (v := 0) C dX3_readsLodger_113 rfl ?_
  exact wq_X3_readsLodger_114 B _ _ _ _ _ _ hw

def wj_X3_readsLodger_92 (Φ : (Nat → Nat → Int32) → Int64 → Prop) (v1 : Int32) (s0 : Int32) (J : Nat → Nat → Int32) (lw : Int64) : Prop :=
(wp_X3_isGood (fun r24 J22 l23 => (if r24 = 0 then wj_X3_readsLodger_113 Φ v1 s0 J22 l23 else (wp_X3_is 7 (fun r50 J48 l49 => (∀ x51 : Int32, x51 = (if r50 = 0 then 0 else 1) → (if s0 = 0 then (if x51 = 0 then wj_X3_readsLodger_127 Φ v1 s0 x51 J48 l49 else wj_X3_readsLodger_123 Φ v1 s0 x51 J48 l49) else wj_X3_readsLodger_123 Φ v1 s0 x51 J48 l49))) J22 l23))) J lw)
theorem wq_X3_readsLodger_92 {g : Gm} {d : TD} {t : Nat} (B : BdT g d prog_11_method_24_code 4 none 3 68) (Φ : (Nat → Nat → Int32) → Int64 → Prop) (v1 : Int32) (s0 : Int32) (J : Nat → Nat → Int32) (lw : Int64) (hw : wj_X3_readsLodger_92 Φ v1 s0 J lw) : GJ g 4 (TP d t J lw (gs g).heap) 0 (TQ g d t (ansV Φ)) 92 [(0, rv (t + 1)), (1, .int v1)] [.int s0] := by
  unfold wj_X3_readsLodger_92 at hw
  have C := B.1
  have hW := B.2.1
  refine gj_istore_n (lc' := [(2, .int s0), (0, rv (t + 1)), (1, .int v1)]) C dX3_readsLodger_92 (Nat.le_of_ble_eq_true rfl) rfl ?_
  refine gj_aload_n C dX3_readsLodger_93 1 rfl ?_
  refine tc_X3_isGood B hw (Nat.le_of_ble_eq_true rfl) (Nat.le_of_ble_eq_true rfl) (Nat.le_of_ble_eq_true rfl) dX3_readsLodger_94 (fun r24 J22 l23 br24 hw => ?_)
  refine gj_if_eq (tgt := 113) C dX3_readsLodger_97 rfl (fun c25 => ?_) (fun c25 => ?_)
  · have hw := it_t hw c25
    refine gj_sub (lc' := [(0, rv (t + 1)), (1, .int v1), (2, .int s0)]) [1, 2, 0] rfl ?_
    exact wq_X3_readsLodger_113 B _ _ _ _ _ hw
  · have hw := it_f hw c25
    refine gj_aload_n C dX3_readsLodger_100 1 rfl ?_
    refine gj_bipush (v := 7) C dX3_readsLodger_101 rfl ?_
    refine tc_X3_is B hw (Nat.le_of_ble_eq_true rfl) (Nat.le_of_ble_eq_true rfl) (Nat.le_of_ble_eq_true rfl) dX3_readsLodger_103 (fun r50 J48 l49 br50 hw => ?_)
    have key : ∀ x51 : Int32, x51 = (if r50 = 0 then 0 else 1) → GJ g 4 (TP d t J48 l49 (gs g).heap) 0 (TQ g d t (ansV Φ)) 114 [(2, .int s0), (0, rv (t + 1)), (1, .int v1)] [.int x51] → GJ g 4 (TP d t J48 l49 (gs g).heap) 0 (TQ g d t (ansV Φ)) 106 [(2, .int s0), (0, rv (t + 1)), (1, .int v1)] [.int r50] := by
      intro x51 ex51 kk
      refine gj_if_eq (tgt := 113) C dX3_readsLodger_106 rfl (fun c52 => ?_) (fun c52 => ?_)
      · refine gj_iconst (v := 0) C dX3_readsLodger_113 rfl ?_
        rw [if_pos c52] at ex51
        subst ex51
        exact kk
      · refine gj_iconst (v := 1) C dX3_readsLodger_109 rfl ?_
        refine gj_goto (tgt := 114) C dX3_readsLodger_110 rfl ?_
        rw [if_neg c52] at ex51
        subst ex51
        exact kk
    obtain ⟨x51, ex51⟩ : ∃ x51 : Int32, x51 = (if r50 = 0 then 0 else 1) := ⟨_, rfl⟩
    have bx51 : x51 = 0 ∨ x51 = 1 := by rw [ex51]; (repeat' split) <;> simp
    refine key x51 ex51 ?_
    have hw := hw x51 ex51
    clear key
    refine gj_istore_n (lc' := [(3, .int x51), (2, .int s0), (0, rv (t + 1)), (1, .int v1)]) C dX3_readsLodger_114 (Nat.le_of_ble_eq_true rfl) rfl ?_
    refine gj_iload_n C dX3_readsLodger_115 1 rfl ?_
    refine gj_if_ne (tgt := 123) C dX3_readsLodger_116 rfl (fun c53 => ?_) (fun c53 => ?_)
    · have hw := it_f hw c53
      refine gj_sub (lc' := [(0, rv (t + 1)), (1, .int v1), (2, .int s0), (3, .int x51)]) [2, 3, 1, 0] rfl ?_
      exact wq_X3_readsLodger_123 B _ _ _ _ _ _ hw
    · have hw := it_t hw c53
      refine gj_iload_n C dX3_readsLodger_119 0 rfl ?_
      refine gj_if_eq (tgt := 127) C dX3_readsLodger_120 rfl (fun c54 => ?_) (fun c54 => ?_)
      · have hw := it_t hw c54
        refine gj_sub (lc' := [(0, rv (t + 1)), (1, .int v1), (2, .int s0), (3, .int x51)]) [2, 3, 1, 0] rfl ?_
        exact wq_X3_readsLodger_127 B _ _ _ _ _ _ hw
      · have hw := it_f hw c54
        refine gj_sub (lc' := [(0, rv (t + 1)), (1, .int v1), (2, .int s0), (3, .int x51)]) [2, 3, 1, 0] rfl ?_
        exact wq_X3_readsLodger_123 B _ _ _ _ _ _ hw

def wj_X3_readsLodger_91 (Φ : (Nat → Nat → Int32) → Int64 → Prop) (v1 : Int32) (J : Nat → Nat → Int32) (lw : Int64) : Prop :=
wj_X3_readsLodger_92 Φ v1 0 J lw
theorem wq_X3_readsLodger_91 {g : Gm} {d : TD} {t : Nat} (B : BdT g d prog_11_method_24_code 4 none 3 68) (Φ : (Nat → Nat → Int32) → Int64 → Prop) (v1 : Int32) (J : Nat → Nat → Int32) (lw : Int64) (hw : wj_X3_readsLodger_91 Φ v1 J lw) : GJ g 4 (TP d t J lw (gs g).heap) 0 (TQ g d t (ansV Φ)) 91 [(0, rv (t + 1)), (1, .int v1)] [] := by
  unfold wj_X3_readsLodger_91 at hw
  have C := B.1
  have hW := B.2.1
  refine gj_iconst (v := 0) C dX3_readsLodger_91 rfl ?_
  exact wq_X3_readsLodger_92 B _ _ _ _ _ hw

def wj_X3_readsLodger_71 (Φ : (Nat → Nat → Int32) → Int64 → Prop) (v1 : Int32) (J : Nat → Nat → Int32) (lw : Int64) : Prop :=
(wp_X3_isGood (fun r20 J18 l19 => (if r20 = 0 then wj_X3_readsLodger_91 Φ v1 J18 l19 else (wp_X3_is 6 (fun r57 J55 l56 => (∀ x58 : Int32, x58 = (if r57 = 0 then 0 else 1) → (wp_X3_isGood (fun r62 J60 l61 => (if r62 = 0 then wj_X3_readsLodger_113 Φ v1 x58 J60 l61 else (wp_X3_is 7 (fun r66 J64 l65 => (∀ x67 : Int32, x67 = (if r66 = 0 then 0 else 1) → (if x58 = 0 then (if x67 = 0 then wj_X3_readsLodger_127 Φ v1 x58 x67 J64 l65 else wj_X3_readsLodger_123 Φ v1 x58 x67 J64 l65) else wj_X3_readsLodger_123 Φ v1 x58 x67 J64 l65))) J60 l61))) J55 l56))) J18 l19))) J lw)
theorem wq_X3_readsLodger_71 {g : Gm} {d : TD} {t : Nat} (B : BdT g d prog_11_method_24_code 4 none 3 68) (Φ : (Nat → Nat → Int32) → Int64 → Prop) (v1 : Int32) (J : Nat → Nat → Int32) (lw : Int64) (hw : wj_X3_readsLodger_71 Φ v1 J lw) : GJ g 4 (TP d t J lw (gs g).heap) 0 (TQ g d t (ansV Φ)) 71 [(0, rv (t + 1)), (1, .int v1)] [] := by
  unfold wj_X3_readsLodger_71 at hw
  have C := B.1
  have hW := B.2.1
  refine gj_aload_n C dX3_readsLodger_71 0 rfl ?_
  refine tc_X3_isGood B hw (Nat.le_of_ble_eq_true rfl) (Nat.le_of_ble_eq_true rfl) (Nat.le_of_ble_eq_true rfl) dX3_readsLodger_72 (fun r20 J18 l19 br20 hw => ?_)
  refine gj_if_eq (tgt := 91) C dX3_readsLodger_75 rfl (fun c21 => ?_) (fun c21 => ?_)
  · have hw := it_t hw c21
    exact wq_X3_readsLodger_91 B _ _ _ _ hw
  · have hw := it_f hw c21
    refine gj_aload_n C dX3_readsLodger_78 0 rfl ?_
    refine gj_bipush (v := 6) C dX3_readsLodger_79 rfl ?_
    refine tc_X3_is B hw (Nat.le_of_ble_eq_true rfl) (Nat.le_of_ble_eq_true rfl) (Nat.le_of_ble_eq_true rfl) dX3_readsLodger_81 (fun r57 J55 l56 br57 hw => ?_)
    have key : ∀ x58 : Int32, x58 = (if r57 = 0 then 0 else 1) → GJ g 4 (TP d t J55 l56 (gs g).heap) 0 (TQ g d t (ansV Φ)) 92 [(0, rv (t + 1)), (1, .int v1)] [.int x58] → GJ g 4 (TP d t J55 l56 (gs g).heap) 0 (TQ g d t (ansV Φ)) 84 [(0, rv (t + 1)), (1, .int v1)] [.int r57] := by
      intro x58 ex58 kk
      refine gj_if_eq (tgt := 91) C dX3_readsLodger_84 rfl (fun c59 => ?_) (fun c59 => ?_)
      · refine gj_iconst (v := 0) C dX3_readsLodger_91 rfl ?_
        rw [if_pos c59] at ex58
        subst ex58
        exact kk
      · refine gj_iconst (v := 1) C dX3_readsLodger_87 rfl ?_
        refine gj_goto (tgt := 92) C dX3_readsLodger_88 rfl ?_
        rw [if_neg c59] at ex58
        subst ex58
        exact kk
    obtain ⟨x58, ex58⟩ : ∃ x58 : Int32, x58 = (if r57 = 0 then 0 else 1) := ⟨_, rfl⟩
    have bx58 : x58 = 0 ∨ x58 = 1 := by rw [ex58]; (repeat' split) <;> simp
    refine key x58 ex58 ?_
    have hw := hw x58 ex58
    clear key
    refine gj_istore_n (lc' := [(2, .int x58), (0, rv (t + 1)), (1, .int v1)]) C dX3_readsLodger_92 (Nat.le_of_ble_eq_true rfl) rfl ?_
    refine gj_aload_n C dX3_readsLodger_93 1 rfl ?_
    refine tc_X3_isGood B hw (Nat.le_of_ble_eq_true rfl) (Nat.le_of_ble_eq_true rfl) (Nat.le_of_ble_eq_true rfl) dX3_readsLodger_94 (fun r62 J60 l61 br62 hw => ?_)
    refine gj_if_eq (tgt := 113) C dX3_readsLodger_97 rfl (fun c63 => ?_) (fun c63 => ?_)
    · have hw := it_t hw c63
      refine gj_sub (lc' := [(0, rv (t + 1)), (1, .int v1), (2, .int x58)]) [1, 2, 0] rfl ?_
      exact wq_X3_readsLodger_113 B _ _ _ _ _ hw
    · have hw := it_f hw c63
      refine gj_aload_n C dX3_readsLodger_100 1 rfl ?_
      refine gj_bipush (v := 7) C dX3_readsLodger_101 rfl ?_
      refine tc_X3_is B hw (Nat.le_of_ble_eq_true rfl) (Nat.le_of_ble_eq_true rfl) (Nat.le_of_ble_eq_true rfl) dX3_readsLodger_103 (fun r66 J64 l65 br66 hw => ?_)
      have key : ∀ x67 : Int32, x67 = (if r66 = 0 then 0 else 1) → GJ g 4 (TP d t J64 l65 (gs g).heap) 0 (TQ g d t (ansV Φ)) 114 [(2, .int x58), (0, rv (t + 1)), (1, .int v1)] [.int x67] → GJ g 4 (TP d t J64 l65 (gs g).heap) 0 (TQ g d t (ansV Φ)) 106 [(2, .int x58), (0, rv (t + 1)), (1, .int v1)] [.int r66] := by
        intro x67 ex67 kk
        refine gj_if_eq (tgt := 113) C dX3_readsLodger_106 rfl (fun c68 => ?_) (fun c68 => ?_)
        · refine gj_iconst (v := 0) C dX3_readsLodger_113 rfl ?_
          rw [if_pos c68] at ex67
          subst ex67
          exact kk
        · refine gj_iconst (v := 1) C dX3_readsLodger_109 rfl ?_
          refine gj_goto (tgt := 114) C dX3_readsLodger_110 rfl ?_
          rw [if_neg c68] at ex67
          subst ex67
          exact kk
      obtain ⟨x67, ex67⟩ : ∃ x67 : Int32, x67 = (if r66 = 0 then 0 else 1) := ⟨_, rfl⟩
      have bx67 : x67 = 0 ∨ x67 = 1 := by rw [ex67]; (repeat' split) <;> simp
      refine key x67 ex67 ?_
      have hw := hw x67 ex67
      clear key
      refine gj_istore_n (lc' := [(3, .int x67), (2, .int x58), (0, rv (t + 1)), (1, .int v1)]) C dX3_readsLodger_114 (Nat.le_of_ble_eq_true rfl) rfl ?_
      refine gj_iload_n C dX3_readsLodger_115 1 rfl ?_
      refine gj_if_ne (tgt := 123) C dX3_readsLodger_116 rfl (fun c69 => ?_) (fun c69 => ?_)
      · have hw := it_f hw c69
        refine gj_sub (lc' := [(0, rv (t + 1)), (1, .int v1), (2, .int x58), (3, .int x67)]) [2, 3, 1, 0] rfl ?_
        exact wq_X3_readsLodger_123 B _ _ _ _ _ _ hw
      · have hw := it_t hw c69
        refine gj_iload_n C dX3_readsLodger_119 0 rfl ?_
        refine gj_if_eq (tgt := 127) C dX3_readsLodger_120 rfl (fun c70 => ?_) (fun c70 => ?_)
        · have hw := it_t hw c70
          refine gj_sub (lc' := [(0, rv (t + 1)), (1, .int v1), (2, .int x58), (3, .int x67)]) [2, 3, 1, 0] rfl ?_
          exact wq_X3_readsLodger_127 B _ _ _ _ _ _ hw
        · have hw := it_f hw c70
          refine gj_sub (lc' := [(0, rv (t + 1)), (1, .int v1), (2, .int x58), (3, .int x67)]) [2, 3, 1, 0] rfl ?_
          exact wq_X3_readsLodger_123 B _ _ _ _ _ _ hw

def wj_X3_readsLodger_55 (Φ : (Nat → Nat → Int32) → Int64 → Prop) (J : Nat → Nat → Int32) (lw : Int64) : Prop :=
(∀ x13 : Int32, x13 = (J 0 22) → (wp_X3_isGood (fun r16 J14 l15 => (if r16 = 0 then wj_X3_readsLodger_71 Φ x13 J14 l15 else (wp_X3_steps (fun J71 l72 => wj_X3_readsLodger_71 Φ x13 J71 l72) J14 l15))) J lw))
theorem wq_X3_readsLodger_55 {g : Gm} {d : TD} {t : Nat} (B : BdT g d prog_11_method_24_code 4 none 3 68) (Φ : (Nat → Nat → Int32) → Int64 → Prop) (J : Nat → Nat → Int32) (lw : Int64) (hw : wj_X3_readsLodger_55 Φ J lw) : GJ g 4 (TP d t J lw (gs g).heap) 0 (TQ g d t (ansV Φ)) 55 [(0, rv (t + 1))] [] := by
  unfold wj_X3_readsLodger_55 at hw
  have C := B.1
  have hW := B.2.1
  refine gj_aload_n C dX3_readsLodger_55 0 rfl ?_
  refine tg161 C hW dX3_readsLodger_56 ?_
  refine gj_topi (fun x13 ex13 => ?_)
  have hw := hw x13 ex13
  refine gj_istore_n (lc' := [(1, .int x13), (0, rv (t + 1))]) C dX3_readsLodger_59 (Nat.le_of_ble_eq_true rfl) rfl ?_
  refine gj_aload_n C dX3_readsLodger_60 1 rfl ?_
  refine tc_X3_isGood B hw (Nat.le_of_ble_eq_true rfl) (Nat.le_of_ble_eq_true rfl) (Nat.le_of_ble_eq_true rfl) dX3_readsLodger_61 (fun r16 J14 l15 br16 hw => ?_)
  refine gj_if_eq (tgt := 71) C dX3_readsLodger_64 rfl (fun c17 => ?_) (fun c17 => ?_)
  · have hw := it_t hw c17
    refine gj_sub (lc' := [(0, rv (t + 1)), (1, .int x13)]) [1, 0] rfl ?_
    exact wq_X3_readsLodger_71 B _ _ _ _ hw
  · have hw := it_f hw c17
    refine gj_aload_n C dX3_readsLodger_67 1 rfl ?_
    refine tc_X3_steps B hw (Nat.le_of_ble_eq_true rfl) (Nat.le_of_ble_eq_true rfl) (Nat.le_of_ble_eq_true rfl) dX3_readsLodger_68 (fun J71 l72 hw => ?_)
    refine gj_sub (lc' := [(0, rv (t + 1)), (1, .int x13)]) [1, 0] rfl ?_
    exact wq_X3_readsLodger_71 B _ _ _ _ hw

def wj_X3_readsLodger_14 (Φ : (Nat → Nat → Int32) → Int64 → Prop) (J : Nat → Nat → Int32) (lw : Int64) : Prop :=
(wp_X3_isGood (fun r4 J2 l3 => (if r4 = 0 then Φ J2 l3 else (wp_X3_steps (fun J6 l7 => (wp_X3_amongHere (J6 0 24) (fun r11 J9 l10 => (if r11 = 0 then wj_X3_readsLodger_55 Φ J9 l10 else (vp_in (J9 0 22) (tln 30) ∧ (if (J9 30 (Int32.toNatClampNeg (J9 0 22))) = (-1) then wj_X3_readsLodger_55 Φ J9 l10 else (wp_X3_wrong 4 (fun J76 l77 => wj_X3_readsLodger_55 Φ J76 l77) J9 l10))))) J6 l7)) J2 l3))) J lw)
theorem wq_X3_readsLodger_14 {g : Gm} {d : TD} {t : Nat} (B : BdT g d prog_11_method_24_code 4 none 3 68) (Φ : (Nat → Nat → Int32) → Int64 → Prop) (J : Nat → Nat → Int32) (lw : Int64) (hw : wj_X3_readsLodger_14 Φ J lw) : GJ g 4 (TP d t J lw (gs g).heap) 0 (TQ g d t (ansV Φ)) 14 [(0, rv (t + 1))] [] := by
  unfold wj_X3_readsLodger_14 at hw
  have C := B.1
  have hW := B.2.1
  refine gj_aload_n C dX3_readsLodger_14 0 rfl ?_
  refine tc_X3_isGood B hw (Nat.le_of_ble_eq_true rfl) (Nat.le_of_ble_eq_true rfl) (Nat.le_of_ble_eq_true rfl) dX3_readsLodger_15 (fun r4 J2 l3 br4 hw => ?_)
  refine gj_if_ne (tgt := 22) C dX3_readsLodger_18 rfl (fun c5 => ?_) (fun c5 => ?_)
  · have hw := it_f hw c5
    refine gj_aload_n C dX3_readsLodger_22 0 rfl ?_
    refine tc_X3_steps B hw (Nat.le_of_ble_eq_true rfl) (Nat.le_of_ble_eq_true rfl) (Nat.le_of_ble_eq_true rfl) dX3_readsLodger_23 (fun J6 l7 hw => ?_)
    refine gj_aload_n C dX3_readsLodger_26 0 rfl ?_
    refine gj_aload_n C dX3_readsLodger_27 0 rfl ?_
    refine tg209 C hW dX3_readsLodger_28 ?_
    refine tc_X3_amongHere B hw (Nat.le_of_ble_eq_true rfl) (Nat.le_of_ble_eq_true rfl) (Nat.le_of_ble_eq_true rfl) dX3_readsLodger_31 (fun r11 J9 l10 br11 hw => ?_)
    refine gj_if_eq (tgt := 55) C dX3_readsLodger_34 rfl (fun c12 => ?_) (fun c12 => ?_)
    · have hw := it_t hw c12
      exact wq_X3_readsLodger_55 B _ _ _ hw
    · have hw := it_f hw c12
      refine gj_aload_n C dX3_readsLodger_37 0 rfl ?_
      refine tg44 C hW dX3_readsLodger_38 ?_
      refine gj_aload_n C dX3_readsLodger_41 0 rfl ?_
      refine tg161 C hW dX3_readsLodger_42 ?_
      obtain ⟨h74, hw⟩ := hw
      refine gt_iald C hW (by decide) h74 dX3_readsLodger_45 ?_
      refine gj_iconst (v := (-1)) C dX3_readsLodger_46 rfl ?_
      refine gj_icmp_eq (tgt := 55) C dX3_readsLodger_47 rfl (fun c75 => ?_) (fun c75 => ?_)
      · have hw := it_t hw c75
        exact wq_X3_readsLodger_55 B _ _ _ hw
      · have hw := it_f hw c75
        refine gj_aload_n C dX3_readsLodger_50 0 rfl ?_
        refine gj_iconst (v := 4) C dX3_readsLodger_51 rfl ?_
        refine tc_X3_wrong B hw (Nat.le_of_ble_eq_true rfl) (Nat.le_of_ble_eq_true rfl) (Nat.le_of_ble_eq_true rfl) dX3_readsLodger_52 (fun J76 l77 hw => ?_)
        exact wq_X3_readsLodger_55 B _ _ _ hw
  · have hw := it_t hw c5
    exact gt_vret B hw dX3_readsLodger_21

def wp_X3_readsLodger (Φ : (Nat → Nat → Int32) → Int64 → Prop) (J : Nat → Nat → Int32) (lw : Int64) : Prop :=
(if (J 0 25) = 6 then (wp_X3_wrong 2 (fun J79 l80 => wj_X3_readsLodger_14 Φ J79 l80) J lw) else wj_X3_readsLodger_14 Φ J lw)
theorem wk_X3_readsLodger {g : Gm} {d : TD} {t : Nat} (B : BdT g d prog_11_method_24_code 4 none 3 68) (Φ : (Nat → Nat → Int32) → Int64 → Prop) (J : Nat → Nat → Int32) (lw : Int64) (hw : wp_X3_readsLodger Φ J lw) : GJ g 4 (TP d t J lw (gs g).heap) 0 (TQ g d t (ansV Φ)) 0 [(0, rv (t + 1))] [] := by
  unfold wp_X3_readsLodger at hw
  have C := B.1
  have hW := B.2.1
  refine gj_aload_n C dX3_readsLodger_0 0 rfl ?_
  refine tg206 C hW dX3_readsLodger_1 ?_
  refine gj_bipush (v := 6) C dX3_readsLodger_4 rfl ?_
  refine gj_icmp_ne (tgt := 14) C dX3_readsLodger_6 rfl (fun c1 => ?_) (fun c1 => ?_)
  · have hw := it_f hw c1
    exact wq_X3_readsLodger_14 B _ _ _ hw
  · have hw := it_t hw c1
    refine gj_aload_n C dX3_readsLodger_9 0 rfl ?_
    refine gj_iconst (v := 2) C dX3_readsLodger_10 rfl ?_
    refine tc_X3_wrong B hw (Nat.le_of_ble_eq_true rfl) (Nat.le_of_ble_eq_true rfl) (Nat.le_of_ble_eq_true rfl) dX3_readsLodger_11 (fun J79 l80 hw => ?_)
    exact wq_X3_readsLodger_14 B _ _ _ hw

theorem met_X3_readsLodger (l : Launch) {d : TD} {t : Nat} {J : Nat → Nat → Int32} {lw : Int64} {Φ : (Nat → Nat → Int32) → Int64 → Prop} (hw : wp_X3_readsLodger Φ J lw) : MetT l yX3_readsLodger prog_11_method_24_code 4 none 3 68 [.ref t] d t J lw (ansV Φ) :=
  mt_of (by decide +kernel) rfl (Nat.le_of_ble_eq_true rfl) (fun g _ B => wk_X3_readsLodger B _ J lw hw)
theorem tc_X3_readsLodger {g : Gm} {d : TD} {t : Nat} {cc : ByteArray} {nL : Nat} {ret : Option FieldType} {fr lo : Nat} (B : BdT g d cc nL ret fr lo) {J : Nat → Nat → Int32} {lw : Int64} {H0 : Heap} {Q : State → Prop} {pc : Nat} {lc : List (Nat × Value)} {rest : List Value} {Φ : (Nat → Nat → Int32) → Int64 → Prop} (hw : wp_X3_readsLodger Φ J lw) (hf : 4 ≤ fr) (hlo : 91 ≤ lo) (hrest : (rest.map fun v => v.category).sum ≤ 8) (dg : decode cc pc = .ok (.invokevirtual 229, 3)) (k : ∀ J' lw', Φ J' lw' → GJ g nL (TP d t J' lw' H0) 0 Q (pc + 3) lc (rest)) : GJ g nL (TP d t J lw H0) 0 Q pc lc (rv (t + 1) :: rest) :=
  gt_callV (n := 0) (As := []) B (met_X3_readsLodger g.2.1 hw) (lw_V q1466 q1468 qs49 q97 q1469) ⟨rfl, by decide +kernel, by decide +kernel, by decide +kernel⟩ rfl hf hlo ⟨Nat.zero_le _, Nat.zero_le _⟩ rfl hrest dg (fun v J' lw' hp => by obtain ⟨rfl, hp⟩ := hp; exact k J' lw' hp)
/-! among(I)I -/
def wp_X3_among (p1 : Int32) (Φ : Int32 → (Nat → Nat → Int32) → Int64 → Prop) (J : Nat → Nat → Int32) (lw : Int64) : Prop :=
(wp_X3_amongHere p1 (fun r3 J1 l2 => (∀ x4 : Int32, x4 = (if r3 = 0 then 0 else (J1 0 22)) → (wp_X3_isGood (fun r8 J6 l7 => (if r8 = 0 then Φ x4 J6 l7 else (wp_X3_steps (fun J10 l11 => Φ x4 J10 l11) J6 l7))) J1 l2))) J lw)
theorem wk_X3_among {g : Gm} {d : TD} {t : Nat} (B : BdT g d prog_11_method_22_code 3 (some .int) 2 42) (p1 : Int32) (Φ : Int32 → (Nat → Nat → Int32) → Int64 → Prop) (J : Nat → Nat → Int32) (lw : Int64) (hw : wp_X3_among p1 Φ J lw) : GJ g 3 (TP d t J lw (gs g).heap) 0 (TQ g d t (ansI Φ)) 0 [(0, rv (t + 1)), (1, .int p1)] [] := by
  unfold wp_X3_among at hw
  have C := B.1
  have hW := B.2.1
  refine gj_aload_n C dX3_among_0 0 rfl ?_
  refine gj_iload_n C dX3_among_1 1 rfl ?_
  refine tc_X3_amongHere B hw (Nat.le_of_ble_eq_true rfl) (Nat.le_of_ble_eq_true rfl) (Nat.le_of_ble_eq_true rfl) dX3_among_2 (fun r3 J1 l2 br3 hw => ?_)
  have key : ∀ x4 : Int32, x4 = (if r3 = 0 then 0 else (J1 0 22)) → GJ g 3 (TP d t J1 l2 (gs g).heap) 0 (TQ g d t (ansI Φ)) 16 [(0, rv (t + 1)), (1, .int p1)] [.int x4] → GJ g 3 (TP d t J1 l2 (gs g).heap) 0 (TQ g d t (ansI Φ)) 5 [(0, rv (t + 1)), (1, .int p1)] [.int r3] := by
    intro x4 ex4 kk
    refine gj_if_eq (tgt := 15) C dX3_among_5 rfl (fun c5 => ?_) (fun c5 => ?_)
    · refine gj_iconst (v := 0) C dX3_among_15 rfl ?_
      rw [if_pos c5] at ex4
      subst ex4
      exact kk
    · refine gj_aload_n C dX3_among_8 0 rfl ?_
      refine tg161 C hW dX3_among_9 ?_
      refine gj_goto (tgt := 16) C dX3_among_12 rfl ?_
      rw [if_neg c5] at ex4
      subst ex4
      exact kk
  obtain ⟨x4, ex4⟩ : ∃ x4 : Int32, x4 = (if r3 = 0 then 0 else (J1 0 22)) := ⟨_, rfl⟩
  refine key x4 ex4 ?_
  have hw := hw x4 ex4
  clear key
  refine gj_istore_n (lc' := [(2, .int x4), (0, rv (t + 1)), (1, .int p1)]) C dX3_among_16 (Nat.le_of_ble_eq_true rfl) rfl ?_
  refine gj_aload_n C dX3_among_17 1 rfl ?_
  refine tc_X3_isGood B hw (Nat.le_of_ble_eq_true rfl) (Nat.le_of_ble_eq_true rfl) (Nat.le_of_ble_eq_true rfl) dX3_among_18 (fun r8 J6 l7 br8 hw => ?_)
  refine gj_if_eq (tgt := 28) C dX3_among_21 rfl (fun c9 => ?_) (fun c9 => ?_)
  · have hw := it_t hw c9
    refine gj_iload_n C dX3_among_28 0 rfl ?_
    exact gt_iret B hw dX3_among_29
  · have hw := it_f hw c9
    refine gj_aload_n C dX3_among_24 1 rfl ?_
    refine tc_X3_steps B hw (Nat.le_of_ble_eq_true rfl) (Nat.le_of_ble_eq_true rfl) (Nat.le_of_ble_eq_true rfl) dX3_among_25 (fun J10 l11 hw => ?_)
    refine gj_iload_n C dX3_among_28 0 rfl ?_
    exact gt_iret B hw dX3_among_29

theorem met_X3_among (l : Launch) {d : TD} {t : Nat} {J : Nat → Nat → Int32} {lw : Int64} {p1 : Int32} {Φ : Int32 → (Nat → Nat → Int32) → Int64 → Prop} (hw : wp_X3_among p1 Φ J lw) : MetT l yX3_among prog_11_method_22_code 3 (some .int) 2 42 [.ref t, .int p1] d t J lw (ansI Φ) :=
  mt_of (by decide +kernel) rfl (Nat.le_of_ble_eq_true rfl) (fun g _ B => wk_X3_among B _ _ J lw hw)
theorem tc_X3_among {g : Gm} {d : TD} {t : Nat} {cc : ByteArray} {nL : Nat} {ret : Option FieldType} {fr lo : Nat} (B : BdT g d cc nL ret fr lo) {J : Nat → Nat → Int32} {lw : Int64} {H0 : Heap} {Q : State → Prop} {pc : Nat} {lc : List (Nat × Value)} {rest : List Value} {p1 : Int32} {Φ : Int32 → (Nat → Nat → Int32) → Int64 → Prop} (hw : wp_X3_among p1 Φ J lw) (hf : 3 ≤ fr) (hlo : 64 ≤ lo) (hrest : (rest.map fun v => v.category).sum ≤ 8) (dg : decode cc pc = .ok (.invokevirtual 215, 3)) (k : ∀ (r : Int32) J' lw', Φ r J' lw' → GJ g nL (TP d t J' lw' H0) 0 Q (pc + 3) lc (.int r :: rest)) : GJ g nL (TP d t J lw H0) 0 Q pc lc (.int p1 :: rv (t + 1) :: rest) :=
  gt_callV (n := 1) (As := [.int p1]) B (met_X3_among g.2.1 hw) (lw_V q1474 q1476 qs51 q97 q1477) ⟨rfl, by decide +kernel, by decide +kernel, by decide +kernel⟩ rfl hf hlo ⟨Nat.zero_le _, Nat.zero_le _⟩ rfl hrest dg (fun v J' lw' hp => by obtain ⟨r, rfl, hp⟩ := hp; exact k r J' lw' hp)
/-! oneOf(II)I -/
def wf_X3_oneOf_2 (p1 : Int32) (p2 : Int32) (Φ : Int32 → (Nat → Nat → Int32) → Int64 → Prop) (X2 : Int32 → (Nat → Nat → Int32) → Int64 → Prop) (v3 : Int32) (J : Nat → Nat → Int32) (lw : Int64) : Prop :=
(if p2 < v3 then Φ (-1) J lw else (wp_X3_is v3 (fun r4 J2 l3 => (if r4 = 0 then (∀ x6 : Int32, x6 = v3 + 1 → X2 x6 J2 l3) else Φ v3 J2 l3)) J lw))
def wl_X3_oneOf_2 (p1 : Int32) (p2 : Int32) (Φ : Int32 → (Nat → Nat → Int32) → Int64 → Prop) (v3 : Int32) (J : Nat → Nat → Int32) (lw : Int64) : Prop := ∀ X2 : Int32 → (Nat → Nat → Int32) → Int64 → Prop, (∀ v3 J lw, wf_X3_oneOf_2 p1 p2 Φ X2 v3 J lw → X2 v3 J lw) → X2 v3 J lw
theorem wk_X3_oneOf_2 {g : Gm} {d : TD} {t : Nat} (B : BdT g d prog_11_method_23_code 4 (some .int) 3 68) (p1 : Int32) (p2 : Int32) (Φ : Int32 → (Nat → Nat → Int32) → Int64 → Prop) (X2 : Int32 → (Nat → Nat → Int32) → Int64 → Prop) (hX2 : ∀ v3 J lw, X2 v3 J lw → GJ g 4 (TP d t J lw (gs g).heap) 0 (TQ g d t (ansI Φ)) 2 [(0, rv (t + 1)), (2, .int p2), (3, .int v3)] []) (v3 : Int32) (J : Nat → Nat → Int32) (lw : Int64) (hw : wf_X3_oneOf_2 p1 p2 Φ X2 v3 J lw) : GJ g 4 (TP d t J lw (gs g).heap) 0 (TQ g d t (ansI Φ)) 2 [(0, rv (t + 1)), (2, .int p2), (3, .int v3)] [] := by
  unfold wf_X3_oneOf_2 at hw
  have C := B.1
  have hW := B.2.1
  refine gj_iload_n C dX3_oneOf_2 2 rfl ?_
  refine gj_iload_n C dX3_oneOf_3 1 rfl ?_
  refine gj_icmp_gt (tgt := 23) C dX3_oneOf_4 rfl (fun c1 => ?_) (fun c1 => ?_)
  · have hw := it_t hw c1
    refine gj_iconst (v := (-1)) C dX3_oneOf_23 rfl ?_
    exact gt_iret B hw dX3_oneOf_24
  · have hw := it_f hw c1
    refine gj_aload_n C dX3_oneOf_7 0 rfl ?_
    refine gj_iload_n C dX3_oneOf_8 2 rfl ?_
    refine tc_X3_is B hw (Nat.le_of_ble_eq_true rfl) (Nat.le_of_ble_eq_true rfl) (Nat.le_of_ble_eq_true rfl) dX3_oneOf_9 (fun r4 J2 l3 br4 hw => ?_)
    refine gj_if_eq (tgt := 17) C dX3_oneOf_12 rfl (fun c5 => ?_) (fun c5 => ?_)
    · have hw := it_t hw c5
      obtain ⟨x6, ex6⟩ : ∃ x6 : Int32, x6 = v3 + 1 := ⟨_, rfl⟩
      have hw := hw x6 ex6
      refine gj_iinc (lc' := [(3, .int x6), (0, rv (t + 1)), (2, .int p2)]) (w := 1) (v := x6) C dX3_oneOf_17 2 rfl rfl ex6.symm (Nat.le_of_ble_eq_true rfl) rfl ?_
      refine gj_goto (tgt := 2) C dX3_oneOf_20 rfl ?_
      refine gj_sub (lc' := [(0, rv (t + 1)), (2, .int p2), (3, .int x6)]) [1, 2, 0] rfl ?_
      exact hX2 _ _ _ hw
    · have hw := it_f hw c5
      refine gj_iload_n C dX3_oneOf_15 2 rfl ?_
      exact gt_iret B hw dX3_oneOf_16

theorem wq_X3_oneOf_2 {g : Gm} {d : TD} {t : Nat} (B : BdT g d prog_11_method_23_code 4 (some .int) 3 68) (p1 : Int32) (p2 : Int32) (Φ : Int32 → (Nat → Nat → Int32) → Int64 → Prop) (v3 : Int32) (J : Nat → Nat → Int32) (lw : Int64) (hw : wl_X3_oneOf_2 p1 p2 Φ v3 J lw) : GJ g 4 (TP d t J lw (gs g).heap) 0 (TQ g d t (ansI Φ)) 2 [(0, rv (t + 1)), (2, .int p2), (3, .int v3)] [] :=
  hw (fun v3 J lw => GJ g 4 (TP d t J lw (gs g).heap) 0 (TQ g d t (ansI Φ)) 2 [(0, rv (t + 1)), (2, .int p2), (3, .int v3)] []) (fun v3 J lw h => wk_X3_oneOf_2 B p1 p2 Φ (fun v3 J lw => GJ g 4 (TP d t J lw (gs g).heap) 0 (TQ g d t (ansI Φ)) 2 [(0, rv (t + 1)), (2, .int p2), (3, .int v3)] []) (fun v3 J lw h => h) v3 J lw h)
def wp_X3_oneOf (p1 : Int32) (p2 : Int32) (Φ : Int32 → (Nat → Nat → Int32) → Int64 → Prop) (J : Nat → Nat → Int32) (lw : Int64) : Prop :=
wl_X3_oneOf_2 p1 p2 Φ p1 J lw
theorem wk_X3_oneOf {g : Gm} {d : TD} {t : Nat} (B : BdT g d prog_11_method_23_code 4 (some .int) 3 68) (p1 : Int32) (p2 : Int32) (Φ : Int32 → (Nat → Nat → Int32) → Int64 → Prop) (J : Nat → Nat → Int32) (lw : Int64) (hw : wp_X3_oneOf p1 p2 Φ J lw) : GJ g 4 (TP d t J lw (gs g).heap) 0 (TQ g d t (ansI Φ)) 0 [(0, rv (t + 1)), (1, .int p1), (2, .int p2)] [] := by
  unfold wp_X3_oneOf at hw
  have C := B.1
  have hW := B.2.1
  refine gj_iload_n C dX3_oneOf_0 1 rfl ?_
  refine gj_istore_n (lc' := [(3, .int p1), (0, rv (t + 1)), (1, .int p1), (2, .int p2)]) C dX3_oneOf_1 (Nat.le_of_ble_eq_true rfl) rfl ?_
  refine gj_sub (lc' := [(0, rv (t + 1)), (2, .int p2), (3, .int p1)]) [1, 3, 0] rfl ?_
  exact wq_X3_oneOf_2 B _ _ _ _ _ _ hw

theorem met_X3_oneOf (l : Launch) {d : TD} {t : Nat} {J : Nat → Nat → Int32} {lw : Int64} {p1 : Int32} {p2 : Int32} {Φ : Int32 → (Nat → Nat → Int32) → Int64 → Prop} (hw : wp_X3_oneOf p1 p2 Φ J lw) : MetT l yX3_oneOf prog_11_method_23_code 4 (some .int) 3 68 [.ref t, .int p1, .int p2] d t J lw (ansI Φ) :=
  mt_of (by decide +kernel) rfl (Nat.le_of_ble_eq_true rfl) (fun g _ B => wk_X3_oneOf B _ _ _ J lw hw)
theorem tc_X3_oneOf {g : Gm} {d : TD} {t : Nat} {cc : ByteArray} {nL : Nat} {ret : Option FieldType} {fr lo : Nat} (B : BdT g d cc nL ret fr lo) {J : Nat → Nat → Int32} {lw : Int64} {H0 : Heap} {Q : State → Prop} {pc : Nat} {lc : List (Nat × Value)} {rest : List Value} {p1 : Int32} {p2 : Int32} {Φ : Int32 → (Nat → Nat → Int32) → Int64 → Prop} (hw : wp_X3_oneOf p1 p2 Φ J lw) (hf : 4 ≤ fr) (hlo : 91 ≤ lo) (hrest : (rest.map fun v => v.category).sum ≤ 8) (dg : decode cc pc = .ok (.invokevirtual 218, 3)) (k : ∀ (r : Int32) J' lw', Φ r J' lw' → GJ g nL (TP d t J' lw' H0) 0 Q (pc + 3) lc (.int r :: rest)) : GJ g nL (TP d t J lw H0) 0 Q pc lc (.int p2 :: .int p1 :: rv (t + 1) :: rest) :=
  gt_callV (n := 2) (As := [.int p1, .int p2]) B (met_X3_oneOf g.2.1 hw) (lw_V q1482 q1484 qs53 q97 q1485) ⟨rfl, by decide +kernel, by decide +kernel, by decide +kernel⟩ rfl hf hlo ⟨Nat.zero_le _, Nat.zero_le _⟩ rfl hrest dg (fun v J' lw' hp => by obtain ⟨r, rfl, hp⟩ := hp; exact k r J' lw' hp)
/-! need(Z)V -/
def wp_X3_need (p1 : Int32) (Φ : (Nat → Nat → Int32) → Int64 → Prop) (J : Nat → Nat → Int32) (lw : Int64) : Prop :=
(wp_X3_isGood (fun r3 J1 l2 => (if r3 = 0 then Φ J1 l2 else (if p1 = 0 then (wp_X3_wrong 1 (fun J6 l7 => Φ J6 l7) J1 l2) else (wp_X3_steps (fun J9 l10 => Φ J9 l10) J1 l2)))) J lw)
theorem wk_X3_need {g : Gm} {d : TD} {t : Nat} (B : BdT g d prog_11_method_19_code 2 none 2 42) (p1 : Int32) (Φ : (Nat → Nat → Int32) → Int64 → Prop) (J : Nat → Nat → Int32) (lw : Int64) (hw : wp_X3_need p1 Φ J lw) : GJ g 2 (TP d t J lw (gs g).heap) 0 (TQ g d t (ansV Φ)) 0 [(0, rv (t + 1)), (1, .int p1)] [] := by
  unfold wp_X3_need at hw
  have C := B.1
  have hW := B.2.1
  refine gj_aload_n C dX3_need_0 0 rfl ?_
  refine tc_X3_isGood B hw (Nat.le_of_ble_eq_true rfl) (Nat.le_of_ble_eq_true rfl) (Nat.le_of_ble_eq_true rfl) dX3_need_1 (fun r3 J1 l2 br3 hw => ?_)
  refine gj_if_ne (tgt := 8) C dX3_need_4 rfl (fun c4 => ?_) (fun c4 => ?_)
  · have hw := it_f hw c4
    refine gj_iload_n C dX3_need_8 1 rfl ?_
    refine gj_if_eq (tgt := 19) C dX3_need_9 rfl (fun c5 => ?_) (fun c5 => ?_)
    · have hw := it_t hw c5
      refine gj_aload_n C dX3_need_19 0 rfl ?_
      refine gj_iconst (v := 1) C dX3_need_20 rfl ?_
      refine tc_X3_wrong B hw (Nat.le_of_ble_eq_true rfl) (Nat.le_of_ble_eq_true rfl) (Nat.le_of_ble_eq_true rfl) dX3_need_21 (fun J6 l7 hw => ?_)
      exact gt_vret B hw dX3_need_24
    · have hw := it_f hw c5
      refine gj_aload_n C dX3_need_12 0 rfl ?_
      refine tc_X3_steps B hw (Nat.le_of_ble_eq_true rfl) (Nat.le_of_ble_eq_true rfl) (Nat.le_of_ble_eq_true rfl) dX3_need_13 (fun J9 l10 hw => ?_)
      refine gj_goto (tgt := 24) C dX3_need_16 rfl ?_
      exact gt_vret B hw dX3_need_24
  · have hw := it_t hw c4
    exact gt_vret B hw dX3_need_7

theorem met_X3_need (l : Launch) {d : TD} {t : Nat} {J : Nat → Nat → Int32} {lw : Int64} {p1 : Int32} {Φ : (Nat → Nat → Int32) → Int64 → Prop} (hw : wp_X3_need p1 Φ J lw) : MetT l yX3_need prog_11_method_19_code 2 none 2 42 [.ref t, .int p1] d t J lw (ansV Φ) :=
  mt_of (by decide +kernel) rfl (Nat.le_of_ble_eq_true rfl) (fun g _ B => wk_X3_need B _ _ J lw hw)
theorem tc_X3_need {g : Gm} {d : TD} {t : Nat} {cc : ByteArray} {nL : Nat} {ret : Option FieldType} {fr lo : Nat} (B : BdT g d cc nL ret fr lo) {J : Nat → Nat → Int32} {lw : Int64} {H0 : Heap} {Q : State → Prop} {pc : Nat} {lc : List (Nat × Value)} {rest : List Value} {p1 : Int32} {Φ : (Nat → Nat → Int32) → Int64 → Prop} (hw : wp_X3_need p1 Φ J lw) (hf : 3 ≤ fr) (hlo : 63 ≤ lo) (hrest : (rest.map fun v => v.category).sum ≤ 8) (dg : decode cc pc = .ok (.invokevirtual 222, 3)) (k : ∀ J' lw', Φ J' lw' → GJ g nL (TP d t J' lw' H0) 0 Q (pc + 3) lc (rest)) : GJ g nL (TP d t J lw H0) 0 Q pc lc (.int p1 :: rv (t + 1) :: rest) :=
  gt_callV (n := 1) (As := [.int p1]) B (met_X3_need g.2.1 hw) (lw_V q1486 q1488 qs54 q97 q1489) ⟨rfl, by decide +kernel, by decide +kernel, by decide +kernel⟩ rfl hf hlo ⟨Nat.zero_le _, Nat.zero_le _⟩ rfl hrest dg (fun v J' lw' hp => by obtain ⟨rfl, hp⟩ := hp; exact k J' lw' hp)
/-! readsMay()V -/
def wf_X3_readsMay_141 (Φ : (Nat → Nat → Int32) → Int64 → Prop) (X141 : Int32 → Int32 → Int32 → Int32 → (Nat → Nat → Int32) → Int64 → Prop) (v1 : Int32) (v3 : Int32) (v5 : Int32) (v6 : Int32) (J : Nat → Nat → Int32) (lw : Int64) : Prop :=
(if v5 < v6 then (∀ J32 : Nat → Nat → Int32, J32 = u2 J 0 27 ((J 0 27) + 1) → Φ J32 lw) else (vp_in ((24 * v1) + v6) (tln 35) ∧ (vp_in ((24 * v1) + v6) (tln 35) ∧ (∀ J35 : Nat → Nat → Int32, J35 = u2 J 35 (Int32.toNatClampNeg ((24 * v1) + v6)) ((J 35 (Int32.toNatClampNeg ((24 * v1) + v6))) ||| ((1 : Int32) <<< (v3 &&& 31))) → (∀ x36 : Int32, x36 = v6 + 1 → X141 v1 v3 v5 x36 J35 lw)))))
def wl_X3_readsMay_141 (Φ : (Nat → Nat → Int32) → Int64 → Prop) (v1 : Int32) (v3 : Int32) (v5 : Int32) (v6 : Int32) (J : Nat → Nat → Int32) (lw : Int64) : Prop := ∀ X141 : Int32 → Int32 → Int32 → Int32 → (Nat → Nat → Int32) → Int64 → Prop, (∀ v1 v3 v5 v6 J lw, wf_X3_readsMay_141 Φ X141 v1 v3 v5 v6 J lw → X141 v1 v3 v5 v6 J lw) → X141 v1 v3 v5 v6 J lw
theorem wk_X3_readsMay_141 {g : Gm} {d : TD} {t : Nat} (B : BdT g d prog_11_method_25_code 7 none 4 91) (Φ : (Nat → Nat → Int32) → Int64 → Prop) (X141 : Int32 → Int32 → Int32 → Int32 → (Nat → Nat → Int32) → Int64 → Prop) (hX141 : ∀ v1 v3 v5 v6 J lw, X141 v1 v3 v5 v6 J lw → GJ g 7 (TP d t J lw (gs g).heap) 0 (TQ g d t (ansV Φ)) 141 [(0, rv (t + 1)), (1, .int v1), (3, .int v3), (5, .int v5), (6, .int v6)] []) (v1 : Int32) (v3 : Int32) (v5 : Int32) (v6 : Int32) (J : Nat → Nat → Int32) (lw : Int64) (hw : wf_X3_readsMay_141 Φ X141 v1 v3 v5 v6 J lw) : GJ g 7 (TP d t J lw (gs g).heap) 0 (TQ g d t (ansV Φ)) 141 [(0, rv (t + 1)), (1, .int v1), (3, .int v3), (5, .int v5), (6, .int v6)] [] := by
  unfold wf_X3_readsMay_141 at hw
  have C := B.1
  have hW := B.2.1
  refine gj_iload C dX3_readsMay_141 4 rfl ?_
  refine gj_iload C dX3_readsMay_143 3 rfl ?_
  refine gj_icmp_gt (tgt := 172) C dX3_readsMay_145 rfl (fun c31 => ?_) (fun c31 => ?_)
  · have hw := it_t hw c31
    refine gj_aload_n C dX3_readsMay_172 0 rfl ?_
    refine gj_dup C dX3_readsMay_173 (rv_cat _) ?_
    refine tg212 C hW dX3_readsMay_174 ?_
    refine gj_iconst (v := 1) C dX3_readsMay_177 rfl ?_
    refine gj_iadd C dX3_readsMay_178 ?_
    refine tp212 C hW dX3_readsMay_179 ?_
    refine gt_nmJ (fun J32 eJ32 => ?_)
    have hw := hw J32 eJ32
    exact gt_vret B hw dX3_readsMay_182
  · have hw := it_f hw c31
    refine gj_aload_n C dX3_readsMay_148 0 rfl ?_
    refine tg59 C hW dX3_readsMay_149 ?_
    refine gj_bipush (v := 24) C dX3_readsMay_152 rfl ?_
    refine gj_iload_n C dX3_readsMay_154 1 rfl ?_
    refine gj_imul C dX3_readsMay_155 ?_
    refine gj_iload C dX3_readsMay_156 4 rfl ?_
    refine gj_iadd C dX3_readsMay_158 ?_
    refine gj_dup2_11 C dX3_readsMay_159 rfl (rv_cat _) ?_
    obtain ⟨h33, hw⟩ := hw
    refine gt_iald C hW (by decide) h33 dX3_readsMay_160 ?_
    refine gj_iconst (v := 1) C dX3_readsMay_161 rfl ?_
    refine gj_iload_n C dX3_readsMay_162 2 rfl ?_
    refine gj_ishl C dX3_readsMay_163 ?_
    refine gj_ior C dX3_readsMay_164 ?_
    obtain ⟨h34, hw⟩ := hw
    refine gt_iast C hW (by decide) h34 dX3_readsMay_165 ?_
    refine gt_nmJ (fun J35 eJ35 => ?_)
    have hw := hw J35 eJ35
    obtain ⟨x36, ex36⟩ : ∃ x36 : Int32, x36 = v6 + 1 := ⟨_, rfl⟩
    have hw := hw x36 ex36
    refine gj_iinc (lc' := [(6, .int x36), (0, rv (t + 1)), (1, .int v1), (3, .int v3), (5, .int v5)]) (w := 1) (v := x36) C dX3_readsMay_166 4 rfl rfl ex36.symm (Nat.le_of_ble_eq_true rfl) rfl ?_
    refine gj_goto (tgt := 141) C dX3_readsMay_169 rfl ?_
    refine gj_sub (lc' := [(0, rv (t + 1)), (1, .int v1), (3, .int v3), (5, .int v5), (6, .int x36)]) [1, 2, 3, 4, 0] rfl ?_
    exact hX141 _ _ _ _ _ _ hw

theorem wq_X3_readsMay_141 {g : Gm} {d : TD} {t : Nat} (B : BdT g d prog_11_method_25_code 7 none 4 91) (Φ : (Nat → Nat → Int32) → Int64 → Prop) (v1 : Int32) (v3 : Int32) (v5 : Int32) (v6 : Int32) (J : Nat → Nat → Int32) (lw : Int64) (hw : wl_X3_readsMay_141 Φ v1 v3 v5 v6 J lw) : GJ g 7 (TP d t J lw (gs g).heap) 0 (TQ g d t (ansV Φ)) 141 [(0, rv (t + 1)), (1, .int v1), (3, .int v3), (5, .int v5), (6, .int v6)] [] :=
  hw (fun v1 v3 v5 v6 J lw => GJ g 7 (TP d t J lw (gs g).heap) 0 (TQ g d t (ansV Φ)) 141 [(0, rv (t + 1)), (1, .int v1), (3, .int v3), (5, .int v5), (6, .int v6)] []) (fun v1 v3 v5 v6 J lw h => wk_X3_readsMay_141 B Φ (fun v1 v3 v5 v6 J lw => GJ g 7 (TP d t J lw (gs g).heap) 0 (TQ g d t (ansV Φ)) 141 [(0, rv (t + 1)), (1, .int v1), (3, .int v3), (5, .int v5), (6, .int v6)] []) (fun v1 v3 v5 v6 J lw h => h) v1 v3 v5 v6 J lw h)
def wj_X3_readsMay_110 (Φ : (Nat → Nat → Int32) → Int64 → Prop) (v1 : Int32) (v3 : Int32) (J : Nat → Nat → Int32) (lw : Int64) : Prop :=
(wp_X3_number 0 23 (fun r23 J21 l22 => (wp_X3_number r23 23 (fun r26 J24 l25 => (wp_X3_isGood (fun r29 J27 l28 => (if r29 = 0 then Φ J27 l28 else wl_X3_readsMay_141 Φ v1 v3 r26 r23 J27 l28)) J24 l25)) J21 l22)) J lw)
theorem wq_X3_readsMay_110 {g : Gm} {d : TD} {t : Nat} (B : BdT g d prog_11_method_25_code 7 none 4 91) (Φ : (Nat → Nat → Int32) → Int64 → Prop) (v1 : Int32) (v3 : Int32) (J : Nat → Nat → Int32) (lw : Int64) (hw : wj_X3_readsMay_110 Φ v1 v3 J lw) : GJ g 7 (TP d t J lw (gs g).heap) 0 (TQ g d t (ansV Φ)) 110 [(0, rv (t + 1)), (1, .int v1), (3, .int v3)] [] := by
  unfold wj_X3_readsMay_110 at hw
  have C := B.1
  have hW := B.2.1
  refine gj_aload_n C dX3_readsMay_110 0 rfl ?_
  refine gj_iconst (v := 0) C dX3_readsMay_111 rfl ?_
  refine gj_bipush (v := 23) C dX3_readsMay_112 rfl ?_
  refine tc_X3_number B hw (Nat.le_of_ble_eq_true rfl) (Nat.le_of_ble_eq_true rfl) (Nat.le_of_ble_eq_true rfl) dX3_readsMay_114 (fun r23 J21 l22 hw => ?_)
  refine gj_istore (lc' := [(4, .int r23), (0, rv (t + 1)), (1, .int v1), (3, .int v3)]) C dX3_readsMay_117 (Nat.le_of_ble_eq_true rfl) rfl ?_
  refine gj_aload_n C dX3_readsMay_119 1 rfl ?_
  refine gj_iload C dX3_readsMay_120 0 rfl ?_
  refine gj_bipush (v := 23) C dX3_readsMay_122 rfl ?_
  refine tc_X3_number B hw (Nat.le_of_ble_eq_true rfl) (Nat.le_of_ble_eq_true rfl) (Nat.le_of_ble_eq_true rfl) dX3_readsMay_124 (fun r26 J24 l25 hw => ?_)
  refine gj_istore (lc' := [(5, .int r26), (4, .int r23), (0, rv (t + 1)), (1, .int v1), (3, .int v3)]) C dX3_readsMay_127 (Nat.le_of_ble_eq_true rfl) rfl ?_
  refine gj_aload_n C dX3_readsMay_129 2 rfl ?_
  refine tc_X3_isGood B hw (Nat.le_of_ble_eq_true rfl) (Nat.le_of_ble_eq_true rfl) (Nat.le_of_ble_eq_true rfl) dX3_readsMay_130 (fun r29 J27 l28 br29 hw => ?_)
  refine gj_if_ne (tgt := 137) C dX3_readsMay_133 rfl (fun c30 => ?_) (fun c30 => ?_)
  · have hw := it_f hw c30
    refine gj_iload C dX3_readsMay_137 1 rfl ?_
    refine gj_istore (lc' := [(6, .int r23), (5, .int r26), (4, .int r23), (0, rv (t + 1)), (1, .int v1), (3, .int v3)]) C dX3_readsMay_139 (Nat.le_of_ble_eq_true rfl) rfl ?_
    refine gj_sub (lc' := [(0, rv (t + 1)), (1, .int v1), (3, .int v3), (5, .int r26), (6, .int r23)]) [3, 4, 5, 1, 0] rfl ?_
    exact wq_X3_readsMay_141 B _ _ _ _ _ _ _ hw
  · have hw := it_t hw c30
    exact gt_vret B hw dX3_readsMay_136

def wj_X3_readsMay_92 (Φ : (Nat → Nat → Int32) → Int64 → Prop) (v1 : Int32) (J : Nat → Nat → Int32) (lw : Int64) : Prop :=
(∀ x41 : Int32, x41 = (4 + (J 0 22)) → (wp_X3_isGood (fun r44 J42 l43 => (if r44 = 0 then wj_X3_readsMay_110 Φ v1 x41 J42 l43 else (wp_X3_steps (fun J46 l47 => wj_X3_readsMay_110 Φ v1 x41 J46 l47) J42 l43))) J lw))
theorem wq_X3_readsMay_92 {g : Gm} {d : TD} {t : Nat} (B : BdT g d prog_11_method_25_code 7 none 4 91) (Φ : (Nat → Nat → Int32) → Int64 → Prop) (v1 : Int32) (J : Nat → Nat → Int32) (lw : Int64) (hw : wj_X3_readsMay_92 Φ v1 J lw) : GJ g 7 (TP d t J lw (gs g).heap) 0 (TQ g d t (ansV Φ)) 92 [(0, rv (t + 1)), (1, .int v1)] [] := by
  unfold wj_X3_readsMay_92 at hw
  have C := B.1
  have hW := B.2.1
  refine gj_iconst (v := 4) C dX3_readsMay_92 rfl ?_
  refine gj_aload_n C dX3_readsMay_93 0 rfl ?_
  refine tg161 C hW dX3_readsMay_94 ?_
  refine gj_iadd C dX3_readsMay_97 ?_
  refine gj_topi (fun x41 ex41 => ?_)
  have hw := hw x41 ex41
  refine gj_istore_n (lc' := [(3, .int x41), (0, rv (t + 1)), (1, .int v1)]) C dX3_readsMay_98 (Nat.le_of_ble_eq_true rfl) rfl ?_
  refine gj_aload_n C dX3_readsMay_99 1 rfl ?_
  refine tc_X3_isGood B hw (Nat.le_of_ble_eq_true rfl) (Nat.le_of_ble_eq_true rfl) (Nat.le_of_ble_eq_true rfl) dX3_readsMay_100 (fun r44 J42 l43 br44 hw => ?_)
  refine gj_if_eq (tgt := 110) C dX3_readsMay_103 rfl (fun c45 => ?_) (fun c45 => ?_)
  · have hw := it_t hw c45
    refine gj_sub (lc' := [(0, rv (t + 1)), (1, .int v1), (3, .int x41)]) [1, 2, 0] rfl ?_
    exact wq_X3_readsMay_110 B _ _ _ _ _ hw
  · have hw := it_f hw c45
    refine gj_aload_n C dX3_readsMay_106 1 rfl ?_
    refine tc_X3_steps B hw (Nat.le_of_ble_eq_true rfl) (Nat.le_of_ble_eq_true rfl) (Nat.le_of_ble_eq_true rfl) dX3_readsMay_107 (fun J46 l47 hw => ?_)
    refine gj_sub (lc' := [(0, rv (t + 1)), (1, .int v1), (3, .int x41)]) [1, 2, 0] rfl ?_
    exact wq_X3_readsMay_110 B _ _ _ _ _ hw

def wj_X3_readsMay_14 (Φ : (Nat → Nat → Int32) → Int64 → Prop) (J : Nat → Nat → Int32) (lw : Int64) : Prop :=
(wp_X3_isGood (fun r4 J2 l3 => (if r4 = 0 then Φ J2 l3 else (wp_X3_steps (fun J6 l7 => (wp_X3_among (J6 0 25) (fun r11 J9 l10 => (wp_X3_oneOf 0 4 (fun r14 J12 l13 => (∀ x15 : Int32, x15 = (if r14 = (-1) then 0 else 1) → (wp_X3_need x15 (fun J17 l18 => (if r14 = 4 then (wp_X3_amongHere (J17 0 24) (fun r39 J37 l38 => (if r39 = 0 then wj_X3_readsMay_92 Φ r11 J37 l38 else (vp_in r11 (tln 31) ∧ (if (J37 0 22) = (J37 31 (Int32.toNatClampNeg r11)) then (wp_X3_wrong 4 (fun J51 l52 => wj_X3_readsMay_92 Φ r11 J51 l52) J37 l38) else wj_X3_readsMay_92 Φ r11 J37 l38)))) J17 l18) else wj_X3_readsMay_110 Φ r11 r14 J17 l18)) J12 l13))) J9 l10)) J6 l7)) J2 l3))) J lw)
theorem wq_X3_readsMay_14 {g : Gm} {d : TD} {t : Nat} (B : BdT g d prog_11_method_25_code 7 none 4 91) (Φ : (Nat → Nat → Int32) → Int64 → Prop) (J : Nat → Nat → Int32) (lw : Int64) (hw : wj_X3_readsMay_14 Φ J lw) : GJ g 7 (TP d t J lw (gs g).heap) 0 (TQ g d t (ansV Φ)) 14 [(0, rv (t + 1))] [] := by
  unfold wj_X3_readsMay_14 at hw
  have C := B.1
  have hW := B.2.1
  refine gj_aload_n C dX3_readsMay_14 0 rfl ?_
  refine tc_X3_isGood B hw (Nat.le_of_ble_eq_true rfl) (Nat.le_of_ble_eq_true rfl) (Nat.le_of_ble_eq_true rfl) dX3_readsMay_15 (fun r4 J2 l3 br4 hw => ?_)
  refine gj_if_ne (tgt := 22) C dX3_readsMay_18 rfl (fun c5 => ?_) (fun c5 => ?_)
  · have hw := it_f hw c5
    refine gj_aload_n C dX3_readsMay_22 0 rfl ?_
    refine tc_X3_steps B hw (Nat.le_of_ble_eq_true rfl) (Nat.le_of_ble_eq_true rfl) (Nat.le_of_ble_eq_true rfl) dX3_readsMay_23 (fun J6 l7 hw => ?_)
    refine gj_aload_n C dX3_readsMay_26 0 rfl ?_
    refine gj_aload_n C dX3_readsMay_27 0 rfl ?_
    refine tg206 C hW dX3_readsMay_28 ?_
    refine tc_X3_among B hw (Nat.le_of_ble_eq_true rfl) (Nat.le_of_ble_eq_true rfl) (Nat.le_of_ble_eq_true rfl) dX3_readsMay_31 (fun r11 J9 l10 hw => ?_)
    refine gj_istore_n (lc' := [(1, .int r11), (0, rv (t + 1))]) C dX3_readsMay_34 (Nat.le_of_ble_eq_true rfl) rfl ?_
    refine gj_aload_n C dX3_readsMay_35 1 rfl ?_
    refine gj_iconst (v := 0) C dX3_readsMay_36 rfl ?_
    refine gj_iconst (v := 4) C dX3_readsMay_37 rfl ?_
    refine tc_X3_oneOf B hw (Nat.le_of_ble_eq_true rfl) (Nat.le_of_ble_eq_true rfl) (Nat.le_of_ble_eq_true rfl) dX3_readsMay_38 (fun r14 J12 l13 hw => ?_)
    refine gj_istore_n (lc' := [(2, .int r14), (1, .int r11), (0, rv (t + 1))]) C dX3_readsMay_41 (Nat.le_of_ble_eq_true rfl) rfl ?_
    refine gj_aload_n C dX3_readsMay_42 2 rfl ?_
    refine gj_iload_n C dX3_readsMay_43 0 rfl ?_
    refine gj_iconst (v := (-1)) C dX3_readsMay_44 rfl ?_
    have key : ∀ x15 : Int32, x15 = (if r14 = (-1) then 0 else 1) → GJ g 7 (TP d t J12 l13 (gs g).heap) 0 (TQ g d t (ansV Φ)) 53 [(2, .int r14), (1, .int r11), (0, rv (t + 1))] [.int x15, rv (t + 1)] → GJ g 7 (TP d t J12 l13 (gs g).heap) 0 (TQ g d t (ansV Φ)) 45 [(2, .int r14), (1, .int r11), (0, rv (t + 1))] [.int (-1), .int r14, rv (t + 1)] := by
      intro x15 ex15 kk
      refine gj_icmp_eq (tgt := 52) C dX3_readsMay_45 rfl (fun c16 => ?_) (fun c16 => ?_)
      · refine gj_iconst (v := 0) C dX3_readsMay_52 rfl ?_
        rw [if_pos c16] at ex15
        subst ex15
        exact kk
      · refine gj_iconst (v := 1) C dX3_readsMay_48 rfl ?_
        refine gj_goto (tgt := 53) C dX3_readsMay_49 rfl ?_
        rw [if_neg c16] at ex15
        subst ex15
        exact kk
    obtain ⟨x15, ex15⟩ : ∃ x15 : Int32, x15 = (if r14 = (-1) then 0 else 1) := ⟨_, rfl⟩
    have bx15 : x15 = 0 ∨ x15 = 1 := by rw [ex15]; (repeat' split) <;> simp
    refine key x15 ex15 ?_
    have hw := hw x15 ex15
    clear key
    refine tc_X3_need B hw (Nat.le_of_ble_eq_true rfl) (Nat.le_of_ble_eq_true rfl) (Nat.le_of_ble_eq_true rfl) dX3_readsMay_53 (fun J17 l18 hw => ?_)
    refine gj_iload_n C dX3_readsMay_56 0 rfl ?_
    refine gj_istore_n (lc' := [(3, .int r14), (2, .int r14), (1, .int r11), (0, rv (t + 1))]) C dX3_readsMay_57 (Nat.le_of_ble_eq_true rfl) rfl ?_
    refine gj_iload_n C dX3_readsMay_58 1 rfl ?_
    refine gj_iconst (v := 4) C dX3_readsMay_59 rfl ?_
    refine gj_icmp_ne (tgt := 110) C dX3_readsMay_60 rfl (fun c20 => ?_) (fun c20 => ?_)
    · have hw := it_f hw c20
      refine gj_sub (lc' := [(0, rv (t + 1)), (1, .int r11), (3, .int r14)]) [3, 2, 0] rfl ?_
      exact wq_X3_readsMay_110 B _ _ _ _ _ hw
    · have hw := it_t hw c20
      refine gj_aload_n C dX3_readsMay_63 3 rfl ?_
      refine gj_aload_n C dX3_readsMay_64 3 rfl ?_
      refine tg209 C hW dX3_readsMay_65 ?_
      refine tc_X3_amongHere B hw (Nat.le_of_ble_eq_true rfl) (Nat.le_of_ble_eq_true rfl) (Nat.le_of_ble_eq_true rfl) dX3_readsMay_68 (fun r39 J37 l38 br39 hw => ?_)
      refine gj_if_eq (tgt := 92) C dX3_readsMay_71 rfl (fun c40 => ?_) (fun c40 => ?_)
      · have hw := it_t hw c40
        refine gj_sub (lc' := [(0, rv (t + 1)), (1, .int r11)]) [3, 2] rfl ?_
        exact wq_X3_readsMay_92 B _ _ _ _ hw
      · have hw := it_f hw c40
        refine gj_aload_n C dX3_readsMay_74 3 rfl ?_
        refine tg161 C hW dX3_readsMay_75 ?_
        refine gj_aload_n C dX3_readsMay_78 3 rfl ?_
        refine tg47 C hW dX3_readsMay_79 ?_
        refine gj_iload_n C dX3_readsMay_82 2 rfl ?_
        obtain ⟨h49, hw⟩ := hw
        refine gt_iald C hW (by decide) h49 dX3_readsMay_83 ?_
        refine gj_icmp_ne (tgt := 92) C dX3_readsMay_84 rfl (fun c50 => ?_) (fun c50 => ?_)
        · have hw := it_f hw c50
          refine gj_sub (lc' := [(0, rv (t + 1)), (1, .int r11)]) [3, 2] rfl ?_
          exact wq_X3_readsMay_92 B _ _ _ _ hw
        · have hw := it_t hw c50
          refine gj_aload_n C dX3_readsMay_87 3 rfl ?_
          refine gj_iconst (v := 4) C dX3_readsMay_88 rfl ?_
          refine tc_X3_wrong B hw (Nat.le_of_ble_eq_true rfl) (Nat.le_of_ble_eq_true rfl) (Nat.le_of_ble_eq_true rfl) dX3_readsMay_89 (fun J51 l52 hw => ?_)
          refine gj_sub (lc' := [(0, rv (t + 1)), (1, .int r11)]) [3, 2] rfl ?_
          exact wq_X3_readsMay_92 B _ _ _ _ hw
  · have hw := it_t hw c5
    exact gt_vret B hw dX3_readsMay_21

def wp_X3_readsMay (Φ : (Nat → Nat → Int32) → Int64 → Prop) (J : Nat → Nat → Int32) (lw : Int64) : Prop :=
(if (J 0 27) = 40 then (wp_X3_wrong 2 (fun J54 l55 => wj_X3_readsMay_14 Φ J54 l55) J lw) else wj_X3_readsMay_14 Φ J lw)
theorem wk_X3_readsMay {g : Gm} {d : TD} {t : Nat} (B : BdT g d prog_11_method_25_code 7 none 4 91) (Φ : (Nat → Nat → Int32) → Int64 → Prop) (J : Nat → Nat → Int32) (lw : Int64) (hw : wp_X3_readsMay Φ J lw) : GJ g 7 (TP d t J lw (gs g).heap) 0 (TQ g d t (ansV Φ)) 0 [(0, rv (t + 1))] [] := by
  unfold wp_X3_readsMay at hw
  have C := B.1
  have hW := B.2.1
  refine gj_aload_n C dX3_readsMay_0 0 rfl ?_
  refine tg212 C hW dX3_readsMay_1 ?_
  refine gj_bipush (v := 40) C dX3_readsMay_4 rfl ?_
  refine gj_icmp_ne (tgt := 14) C dX3_readsMay_6 rfl (fun c1 => ?_) (fun c1 => ?_)
  · have hw := it_f hw c1
    exact wq_X3_readsMay_14 B _ _ _ hw
  · have hw := it_t hw c1
    refine gj_aload_n C dX3_readsMay_9 0 rfl ?_
    refine gj_iconst (v := 2) C dX3_readsMay_10 rfl ?_
    refine tc_X3_wrong B hw (Nat.le_of_ble_eq_true rfl) (Nat.le_of_ble_eq_true rfl) (Nat.le_of_ble_eq_true rfl) dX3_readsMay_11 (fun J54 l55 hw => ?_)
    exact wq_X3_readsMay_14 B _ _ _ hw

theorem met_X3_readsMay (l : Launch) {d : TD} {t : Nat} {J : Nat → Nat → Int32} {lw : Int64} {Φ : (Nat → Nat → Int32) → Int64 → Prop} (hw : wp_X3_readsMay Φ J lw) : MetT l yX3_readsMay prog_11_method_25_code 7 none 4 91 [.ref t] d t J lw (ansV Φ) :=
  mt_of (by decide +kernel) rfl (Nat.le_of_ble_eq_true rfl) (fun g _ B => wk_X3_readsMay B _ J lw hw)
theorem tc_X3_readsMay {g : Gm} {d : TD} {t : Nat} {cc : ByteArray} {nL : Nat} {ret : Option FieldType} {fr lo : Nat} (B : BdT g d cc nL ret fr lo) {J : Nat → Nat → Int32} {lw : Int64} {H0 : Heap} {Q : State → Prop} {pc : Nat} {lc : List (Nat × Value)} {rest : List Value} {Φ : (Nat → Nat → Int32) → Int64 → Prop} (hw : wp_X3_readsMay Φ J lw) (hf : 5 ≤ fr) (hlo : 117 ≤ lo) (hrest : (rest.map fun v => v.category).sum ≤ 8) (dg : decode cc pc = .ok (.invokevirtual 235, 3)) (k : ∀ J' lw', Φ J' lw' → GJ g nL (TP d t J' lw' H0) 0 Q (pc + 3) lc (rest)) : GJ g nL (TP d t J lw H0) 0 Q pc lc (rv (t + 1) :: rest) :=
  gt_callV (n := 0) (As := []) B (met_X3_readsMay g.2.1 hw) (lw_V q1478 q1480 qs52 q97 q1481) ⟨rfl, by decide +kernel, by decide +kernel, by decide +kernel⟩ rfl hf hlo ⟨Nat.zero_le _, Nat.zero_le _⟩ rfl hrest dg (fun v J' lw' hp => by obtain ⟨rfl, hp⟩ := hp; exact k J' lw' hp)
/-! line()V -/
def wj_X3_line_309 (Φ : (Nat → Nat → Int32) → Int64 → Prop) (J : Nat → Nat → Int32) (lw : Int64) : Prop :=
(∀ x24 : Int32, x24 = (if (J 0 19) = 3 then 1 else 0) → (wp_X3_need x24 (fun J26 l27 => Φ J26 l27) J lw))
theorem wq_X3_line_309 {g : Gm} {d : TD} {t : Nat} (B : BdT g d prog_11_method_26_code 3 none 5 117) (Φ : (Nat → Nat → Int32) → Int64 → Prop) (J : Nat → Nat → Int32) (lw : Int64) (hw : wj_X3_line_309 Φ J lw) : GJ g 3 (TP d t J lw (gs g).heap) 0 (TQ g d t (ansV Φ)) 309 [(0, rv (t + 1))] [] := by
  unfold wj_X3_line_309 at hw
  have C := B.1
  have hW := B.2.1
  refine gj_aload_n C dX3_line_309 0 rfl ?_
  refine gj_aload_n C dX3_line_310 0 rfl ?_
  refine tg164 C hW dX3_line_311 ?_
  refine gj_iconst (v := 3) C dX3_line_314 rfl ?_
  have key : ∀ x24 : Int32, x24 = (if (J 0 19) = 3 then 1 else 0) → GJ g 3 (TP d t J lw (gs g).heap) 0 (TQ g d t (ansV Φ)) 323 [(0, rv (t + 1))] [.int x24, rv (t + 1)] → GJ g 3 (TP d t J lw (gs g).heap) 0 (TQ g d t (ansV Φ)) 315 [(0, rv (t + 1))] [.int 3, .int (J 0 19), rv (t + 1)] := by
    intro x24 ex24 kk
    refine gj_icmp_ne (tgt := 322) C dX3_line_315 rfl (fun c25 => ?_) (fun c25 => ?_)
    · refine gj_iconst (v := 0) C dX3_line_322 rfl ?_
      rw [if_neg c25] at ex24
      subst ex24
      exact kk
    · refine gj_iconst (v := 1) C dX3_line_318 rfl ?_
      refine gj_goto (tgt := 323) C dX3_line_319 rfl ?_
      rw [if_pos c25] at ex24
      subst ex24
      exact kk
  obtain ⟨x24, ex24⟩ : ∃ x24 : Int32, x24 = (if (J 0 19) = 3 then 1 else 0) := ⟨_, rfl⟩
  have bx24 : x24 = 0 ∨ x24 = 1 := by rw [ex24]; (repeat' split) <;> simp
  refine key x24 ex24 ?_
  have hw := hw x24 ex24
  clear key
  refine tc_X3_need B hw (Nat.le_of_ble_eq_true rfl) (Nat.le_of_ble_eq_true rfl) (Nat.le_of_ble_eq_true rfl) dX3_line_323 (fun J26 l27 hw => ?_)
  exact gt_vret B hw dX3_line_326

def wj_X3_line_258 (Φ : (Nat → Nat → Int32) → Int64 → Prop) (v1 : Int32) (s0 : Int32) (J : Nat → Nat → Int32) (lw : Int64) : Prop :=
(∀ x45 : Int32, x45 = (if s0 = (-1) then 0 else 1) → (wp_X3_need x45 (fun J47 l48 => (wp_X3_isGood (fun r52 J50 l51 => (if r52 = 0 then wj_X3_line_309 Φ J50 l51 else (∀ J54 : Nat → Nat → Int32, J54 = u2 J50 0 28 ((J50 0 28) ||| ((1 : Int32) <<< (v1 &&& 31))) → (vp_in v1 (tln 34) ∧ (∀ J56 : Nat → Nat → Int32, J56 = u2 J54 34 (Int32.toNatClampNeg v1) (s0 - 5) → wj_X3_line_309 Φ J56 l51))))) J47 l48)) J lw))
theorem wq_X3_line_258 {g : Gm} {d : TD} {t : Nat} (B : BdT g d prog_11_method_26_code 3 none 5 117) (Φ : (Nat → Nat → Int32) → Int64 → Prop) (v1 : Int32) (s0 : Int32) (J : Nat → Nat → Int32) (lw : Int64) (hw : wj_X3_line_258 Φ v1 s0 J lw) : GJ g 3 (TP d t J lw (gs g).heap) 0 (TQ g d t (ansV Φ)) 258 [(0, rv (t + 1)), (1, .int v1)] [.int s0] := by
  unfold wj_X3_line_258 at hw
  have C := B.1
  have hW := B.2.1
  refine gj_istore_n (lc' := [(2, .int s0), (0, rv (t + 1)), (1, .int v1)]) C dX3_line_258 (Nat.le_of_ble_eq_true rfl) rfl ?_
  refine gj_aload_n C dX3_line_259 1 rfl ?_
  refine gj_iload_n C dX3_line_260 0 rfl ?_
  refine gj_iconst (v := (-1)) C dX3_line_261 rfl ?_
  have key : ∀ x45 : Int32, x45 = (if s0 = (-1) then 0 else 1) → GJ g 3 (TP d t J lw (gs g).heap) 0 (TQ g d t (ansV Φ)) 270 [(2, .int s0), (0, rv (t + 1)), (1, .int v1)] [.int x45, rv (t + 1)] → GJ g 3 (TP d t J lw (gs g).heap) 0 (TQ g d t (ansV Φ)) 262 [(2, .int s0), (0, rv (t + 1)), (1, .int v1)] [.int (-1), .int s0, rv (t + 1)] := by
    intro x45 ex45 kk
    refine gj_icmp_eq (tgt := 269) C dX3_line_262 rfl (fun c46 => ?_) (fun c46 => ?_)
    · refine gj_iconst (v := 0) C dX3_line_269 rfl ?_
      rw [if_pos c46] at ex45
      subst ex45
      exact kk
    · refine gj_iconst (v := 1) C dX3_line_265 rfl ?_
      refine gj_goto (tgt := 270) C dX3_line_266 rfl ?_
      rw [if_neg c46] at ex45
      subst ex45
      exact kk
  obtain ⟨x45, ex45⟩ : ∃ x45 : Int32, x45 = (if s0 = (-1) then 0 else 1) := ⟨_, rfl⟩
  have bx45 : x45 = 0 ∨ x45 = 1 := by rw [ex45]; (repeat' split) <;> simp
  refine key x45 ex45 ?_
  have hw := hw x45 ex45
  clear key
  refine tc_X3_need B hw (Nat.le_of_ble_eq_true rfl) (Nat.le_of_ble_eq_true rfl) (Nat.le_of_ble_eq_true rfl) dX3_line_270 (fun J47 l48 hw => ?_)
  refine gj_aload_n C dX3_line_273 1 rfl ?_
  refine tc_X3_isGood B hw (Nat.le_of_ble_eq_true rfl) (Nat.le_of_ble_eq_true rfl) (Nat.le_of_ble_eq_true rfl) dX3_line_274 (fun r52 J50 l51 br52 hw => ?_)
  refine gj_if_eq (tgt := 301) C dX3_line_277 rfl (fun c53 => ?_) (fun c53 => ?_)
  · have hw := it_t hw c53
    refine gj_goto (tgt := 309) C dX3_line_301 rfl ?_
    refine gj_sub (lc' := [(0, rv (t + 1))]) [1] rfl ?_
    exact wq_X3_line_309 B _ _ _ hw
  · have hw := it_f hw c53
    refine gj_aload_n C dX3_line_280 1 rfl ?_
    refine gj_dup C dX3_line_281 (rv_cat _) ?_
    refine tg238 C hW dX3_line_282 ?_
    refine gj_iconst (v := 1) C dX3_line_285 rfl ?_
    refine gj_iload_n C dX3_line_286 2 rfl ?_
    refine gj_ishl C dX3_line_287 ?_
    refine gj_ior C dX3_line_288 ?_
    refine tp238 C hW dX3_line_289 ?_
    refine gt_nmJ (fun J54 eJ54 => ?_)
    have hw := hw J54 eJ54
    refine gj_aload_n C dX3_line_292 1 rfl ?_
    refine tg56 C hW dX3_line_293 ?_
    refine gj_iload_n C dX3_line_296 2 rfl ?_
    refine gj_iload_n C dX3_line_297 0 rfl ?_
    refine gj_iconst (v := 5) C dX3_line_298 rfl ?_
    refine gj_isub C dX3_line_299 ?_
    obtain ⟨h55, hw⟩ := hw
    refine gt_iast C hW (by decide) h55 dX3_line_300 ?_
    refine gt_nmJ (fun J56 eJ56 => ?_)
    have hw := hw J56 eJ56
    refine gj_goto (tgt := 309) C dX3_line_301 rfl ?_
    refine gj_sub (lc' := [(0, rv (t + 1))]) [1] rfl ?_
    exact wq_X3_line_309 B _ _ _ hw

def wj_X3_line_226 (Φ : (Nat → Nat → Int32) → Int64 → Prop) (v1 : Int32) (J : Nat → Nat → Int32) (lw : Int64) : Prop :=
(∀ x36 : Int32, x36 = (if v1 = (-1) then 0 else 1) → (wp_X3_need x36 (fun J38 l39 => (wp_X3_isGood (fun r43 J41 l42 => (if r43 = 0 then wj_X3_line_258 Φ v1 (-1) J41 l42 else (wp_X3_oneOf 5 8 (fun r59 J57 l58 => wj_X3_line_258 Φ v1 r59 J57 l58) J41 l42))) J38 l39)) J lw))
theorem wq_X3_line_226 {g : Gm} {d : TD} {t : Nat} (B : BdT g d prog_11_method_26_code 3 none 5 117) (Φ : (Nat → Nat → Int32) → Int64 → Prop) (v1 : Int32) (J : Nat → Nat → Int32) (lw : Int64) (hw : wj_X3_line_226 Φ v1 J lw) : GJ g 3 (TP d t J lw (gs g).heap) 0 (TQ g d t (ansV Φ)) 226 [(0, rv (t + 1)), (1, .int v1)] [] := by
  unfold wj_X3_line_226 at hw
  have C := B.1
  have hW := B.2.1
  refine gj_aload_n C dX3_line_226 0 rfl ?_
  refine gj_iload_n C dX3_line_227 1 rfl ?_
  refine gj_iconst (v := (-1)) C dX3_line_228 rfl ?_
  have key : ∀ x36 : Int32, x36 = (if v1 = (-1) then 0 else 1) → GJ g 3 (TP d t J lw (gs g).heap) 0 (TQ g d t (ansV Φ)) 237 [(0, rv (t + 1)), (1, .int v1)] [.int x36, rv (t + 1)] → GJ g 3 (TP d t J lw (gs g).heap) 0 (TQ g d t (ansV Φ)) 229 [(0, rv (t + 1)), (1, .int v1)] [.int (-1), .int v1, rv (t + 1)] := by
    intro x36 ex36 kk
    refine gj_icmp_eq (tgt := 236) C dX3_line_229 rfl (fun c37 => ?_) (fun c37 => ?_)
    · refine gj_iconst (v := 0) C dX3_line_236 rfl ?_
      rw [if_pos c37] at ex36
      subst ex36
      exact kk
    · refine gj_iconst (v := 1) C dX3_line_232 rfl ?_
      refine gj_goto (tgt := 237) C dX3_line_233 rfl ?_
      rw [if_neg c37] at ex36
      subst ex36
      exact kk
  obtain ⟨x36, ex36⟩ : ∃ x36 : Int32, x36 = (if v1 = (-1) then 0 else 1) := ⟨_, rfl⟩
  have bx36 : x36 = 0 ∨ x36 = 1 := by rw [ex36]; (repeat' split) <;> simp
  refine key x36 ex36 ?_
  have hw := hw x36 ex36
  clear key
  refine tc_X3_need B hw (Nat.le_of_ble_eq_true rfl) (Nat.le_of_ble_eq_true rfl) (Nat.le_of_ble_eq_true rfl) dX3_line_237 (fun J38 l39 hw => ?_)
  refine gj_aload_n C dX3_line_240 0 rfl ?_
  refine tc_X3_isGood B hw (Nat.le_of_ble_eq_true rfl) (Nat.le_of_ble_eq_true rfl) (Nat.le_of_ble_eq_true rfl) dX3_line_241 (fun r43 J41 l42 br43 hw => ?_)
  refine gj_if_eq (tgt := 257) C dX3_line_244 rfl (fun c44 => ?_) (fun c44 => ?_)
  · have hw := it_t hw c44
    refine gj_iconst (v := (-1)) C dX3_line_257 rfl ?_
    exact wq_X3_line_258 B _ _ _ _ _ hw
  · have hw := it_f hw c44
    refine gj_aload_n C dX3_line_247 0 rfl ?_
    refine gj_iconst (v := 5) C dX3_line_248 rfl ?_
    refine gj_bipush (v := 8) C dX3_line_249 rfl ?_
    refine tc_X3_oneOf B hw (Nat.le_of_ble_eq_true rfl) (Nat.le_of_ble_eq_true rfl) (Nat.le_of_ble_eq_true rfl) dX3_line_251 (fun r59 J57 l58 hw => ?_)
    refine gj_goto (tgt := 258) C dX3_line_254 rfl ?_
    exact wq_X3_line_258 B _ _ _ _ _ hw

def wj_X3_line_119 (Φ : (Nat → Nat → Int32) → Int64 → Prop) (J : Nat → Nat → Int32) (lw : Int64) : Prop :=
(wp_X3_isGood (fun r70 J68 l69 => (if r70 = 0 then Φ J68 l69 else (wp_X3_steps (fun J72 l73 => (wp_X3_among (J72 0 24) (fun r77 J75 l76 => (vp_in (J72 0 26) (tln 33) ∧ (∀ J79 : Nat → Nat → Int32, J79 = u2 J75 33 (Int32.toNatClampNeg (J72 0 26)) r77 → (wp_X3_isGood (fun r82 J80 l81 => (if r82 = 0 then wj_X3_line_309 Φ J80 l81 else (∀ J84 : Nat → Nat → Int32, J84 = u2 J80 0 26 ((J80 0 26) + 1) → wj_X3_line_309 Φ J84 l81))) J79 l76)))) J72 l73)) J68 l69))) J lw)
theorem wq_X3_line_119 {g : Gm} {d : TD} {t : Nat} (B : BdT g d prog_11_method_26_code 3 none 5 117) (Φ : (Nat → Nat → Int32) → Int64 → Prop) (J : Nat → Nat → Int32) (lw : Int64) (hw : wj_X3_line_119 Φ J lw) : GJ g 3 (TP d t J lw (gs g).heap) 0 (TQ g d t (ansV Φ)) 119 [(0, rv (t + 1))] [] := by
  unfold wj_X3_line_119 at hw
  have C := B.1
  have hW := B.2.1
  refine gj_aload_n C dX3_line_119 0 rfl ?_
  refine tc_X3_isGood B hw (Nat.le_of_ble_eq_true rfl) (Nat.le_of_ble_eq_true rfl) (Nat.le_of_ble_eq_true rfl) dX3_line_120 (fun r70 J68 l69 br70 hw => ?_)
  refine gj_if_ne (tgt := 127) C dX3_line_123 rfl (fun c71 => ?_) (fun c71 => ?_)
  · have hw := it_f hw c71
    refine gj_aload_n C dX3_line_127 0 rfl ?_
    refine tc_X3_steps B hw (Nat.le_of_ble_eq_true rfl) (Nat.le_of_ble_eq_true rfl) (Nat.le_of_ble_eq_true rfl) dX3_line_128 (fun J72 l73 hw => ?_)
    refine gj_aload_n C dX3_line_131 0 rfl ?_
    refine tg53 C hW dX3_line_132 ?_
    refine gj_aload_n C dX3_line_135 0 rfl ?_
    refine tg232 C hW dX3_line_136 ?_
    refine gj_aload_n C dX3_line_139 0 rfl ?_
    refine gj_aload_n C dX3_line_140 0 rfl ?_
    refine tg209 C hW dX3_line_141 ?_
    refine tc_X3_among B hw (Nat.le_of_ble_eq_true rfl) (Nat.le_of_ble_eq_true rfl) (Nat.le_of_ble_eq_true rfl) dX3_line_144 (fun r77 J75 l76 hw => ?_)
    obtain ⟨h78, hw⟩ := hw
    refine gt_iast C hW (by decide) h78 dX3_line_147 ?_
    refine gt_nmJ (fun J79 eJ79 => ?_)
    have hw := hw J79 eJ79
    refine gj_aload_n C dX3_line_148 0 rfl ?_
    refine tc_X3_isGood B hw (Nat.le_of_ble_eq_true rfl) (Nat.le_of_ble_eq_true rfl) (Nat.le_of_ble_eq_true rfl) dX3_line_149 (fun r82 J80 l81 br82 hw => ?_)
    refine gj_if_eq (tgt := 309) C dX3_line_152 rfl (fun c83 => ?_) (fun c83 => ?_)
    · have hw := it_t hw c83
      exact wq_X3_line_309 B _ _ _ hw
    · have hw := it_f hw c83
      refine gj_aload_n C dX3_line_155 0 rfl ?_
      refine gj_dup C dX3_line_156 (rv_cat _) ?_
      refine tg232 C hW dX3_line_157 ?_
      refine gj_iconst (v := 1) C dX3_line_160 rfl ?_
      refine gj_iadd C dX3_line_161 ?_
      refine tp232 C hW dX3_line_162 ?_
      refine gt_nmJ (fun J84 eJ84 => ?_)
      have hw := hw J84 eJ84
      refine gj_goto (tgt := 309) C dX3_line_165 rfl ?_
      exact wq_X3_line_309 B _ _ _ hw
  · have hw := it_t hw c71
    exact gt_vret B hw dX3_line_126

def wj_X3_line_23 (Φ : (Nat → Nat → Int32) → Int64 → Prop) (J : Nat → Nat → Int32) (lw : Int64) : Prop :=
(wp_X3_isGood (fun r94 J92 l93 => (if r94 = 0 then Φ J92 l93 else (wp_X3_steps (fun J96 l97 => (wp_X3_number 0 99 (fun r101 J99 l100 => (vp_in (J96 0 24) (tln 29) ∧ (∀ J103 : Nat → Nat → Int32, J103 = u2 J99 29 (Int32.toNatClampNeg (J96 0 24)) r101 → (vp_in (J103 0 24) (tln 30) ∧ (∀ J105 : Nat → Nat → Int32, J105 = u2 J103 30 (Int32.toNatClampNeg (J103 0 24)) (-1) → (wp_X3_isGood (fun r108 J106 l107 => (if r108 = 0 then wj_X3_line_309 Φ J106 l107 else (∀ J110 : Nat → Nat → Int32, J110 = u2 J106 0 24 ((J106 0 24) + 1) → wj_X3_line_309 Φ J110 l107))) J105 l100)))))) J96 l97)) J92 l93))) J lw)
theorem wq_X3_line_23 {g : Gm} {d : TD} {t : Nat} (B : BdT g d prog_11_method_26_code 3 none 5 117) (Φ : (Nat → Nat → Int32) → Int64 → Prop) (J : Nat → Nat → Int32) (lw : Int64) (hw : wj_X3_line_23 Φ J lw) : GJ g 3 (TP d t J lw (gs g).heap) 0 (TQ g d t (ansV Φ)) 23 [(0, rv (t + 1))] [] := by
  unfold wj_X3_line_23 at hw
  have C := B.1
  have hW := B.2.1
  refine gj_aload_n C dX3_line_23 0 rfl ?_
  refine tc_X3_isGood B hw (Nat.le_of_ble_eq_true rfl) (Nat.le_of_ble_eq_true rfl) (Nat.le_of_ble_eq_true rfl) dX3_line_24 (fun r94 J92 l93 br94 hw => ?_)
  refine gj_if_ne (tgt := 31) C dX3_line_27 rfl (fun c95 => ?_) (fun c95 => ?_)
  · have hw := it_f hw c95
    refine gj_aload_n C dX3_line_31 0 rfl ?_
    refine tc_X3_steps B hw (Nat.le_of_ble_eq_true rfl) (Nat.le_of_ble_eq_true rfl) (Nat.le_of_ble_eq_true rfl) dX3_line_32 (fun J96 l97 hw => ?_)
    refine gj_aload_n C dX3_line_35 0 rfl ?_
    refine tg41 C hW dX3_line_36 ?_
    refine gj_aload_n C dX3_line_39 0 rfl ?_
    refine tg209 C hW dX3_line_40 ?_
    refine gj_aload_n C dX3_line_43 0 rfl ?_
    refine gj_iconst (v := 0) C dX3_line_44 rfl ?_
    refine gj_bipush (v := 99) C dX3_line_45 rfl ?_
    refine tc_X3_number B hw (Nat.le_of_ble_eq_true rfl) (Nat.le_of_ble_eq_true rfl) (Nat.le_of_ble_eq_true rfl) dX3_line_47 (fun r101 J99 l100 hw => ?_)
    obtain ⟨h102, hw⟩ := hw
    refine gt_iast C hW (by decide) h102 dX3_line_50 ?_
    refine gt_nmJ (fun J103 eJ103 => ?_)
    have hw := hw J103 eJ103
    refine gj_aload_n C dX3_line_51 0 rfl ?_
    refine tg44 C hW dX3_line_52 ?_
    refine gj_aload_n C dX3_line_55 0 rfl ?_
    refine tg209 C hW dX3_line_56 ?_
    refine gj_iconst (v := (-1)) C dX3_line_59 rfl ?_
    obtain ⟨h104, hw⟩ := hw
    refine gt_iast C hW (by decide) h104 dX3_line_60 ?_
    refine gt_nmJ (fun J105 eJ105 => ?_)
    have hw := hw J105 eJ105
    refine gj_aload_n C dX3_line_61 0 rfl ?_
    refine tc_X3_isGood B hw (Nat.le_of_ble_eq_true rfl) (Nat.le_of_ble_eq_true rfl) (Nat.le_of_ble_eq_true rfl) dX3_line_62 (fun r108 J106 l107 br108 hw => ?_)
    refine gj_if_eq (tgt := 309) C dX3_line_65 rfl (fun c109 => ?_) (fun c109 => ?_)
    · have hw := it_t hw c109
      exact wq_X3_line_309 B _ _ _ hw
    · have hw := it_f hw c109
      refine gj_aload_n C dX3_line_68 0 rfl ?_
      refine gj_dup C dX3_line_69 (rv_cat _) ?_
      refine tg209 C hW dX3_line_70 ?_
      refine gj_iconst (v := 1) C dX3_line_73 rfl ?_
      refine gj_iadd C dX3_line_74 ?_
      refine tp209 C hW dX3_line_75 ?_
      refine gt_nmJ (fun J110 eJ110 => ?_)
      have hw := hw J110 eJ110
      refine gj_goto (tgt := 309) C dX3_line_78 rfl ?_
      exact wq_X3_line_309 B _ _ _ hw
  · have hw := it_t hw c95
    exact gt_vret B hw dX3_line_30

def wp_X3_line (Φ : (Nat → Nat → Int32) → Int64 → Prop) (J : Nat → Nat → Int32) (lw : Int64) : Prop :=
(wp_X3_is 9 (fun r3 J1 l2 => (if r3 = 0 then (wp_X3_is 10 (fun r7 J5 l6 => (if r7 = 0 then (wp_X3_is 11 (fun r11 J9 l10 => (if r11 = 0 then (wp_X3_is 12 (fun r15 J13 l14 => (if r15 = 0 then (wp_X3_is 13 (fun r19 J17 l18 => (if r19 = 0 then (wp_X3_wrong 1 (fun J21 l22 => wj_X3_line_309 Φ J21 l22) J17 l18) else (wp_X3_steps (fun J29 l30 => (wp_X3_oneOf 0 3 (fun r34 J32 l33 => (if r34 = (-1) then wj_X3_line_226 Φ r34 J32 l33 else (if (((J32 0 28) >>> (r34 &&& 31)) &&& 1) = 1 then (wp_X3_wrong 5 (fun J61 l62 => wj_X3_line_226 Φ r34 J61 l62) J32 l33) else wj_X3_line_226 Φ r34 J32 l33))) J29 l30)) J17 l18))) J13 l14) else (wp_X3_readsMay (fun J64 l65 => wj_X3_line_309 Φ J64 l65) J13 l14))) J9 l10) else (if (J9 0 26) = 3 then (wp_X3_wrong 2 (fun J85 l86 => wj_X3_line_119 Φ J85 l86) J9 l10) else wj_X3_line_119 Φ J9 l10))) J5 l6) else (wp_X3_readsLodger (fun J88 l89 => wj_X3_line_309 Φ J88 l89) J5 l6))) J1 l2) else (if (J1 0 24) = 8 then (wp_X3_wrong 2 (fun J111 l112 => wj_X3_line_23 Φ J111 l112) J1 l2) else wj_X3_line_23 Φ J1 l2))) J lw)
theorem wk_X3_line {g : Gm} {d : TD} {t : Nat} (B : BdT g d prog_11_method_26_code 3 none 5 117) (Φ : (Nat → Nat → Int32) → Int64 → Prop) (J : Nat → Nat → Int32) (lw : Int64) (hw : wp_X3_line Φ J lw) : GJ g 3 (TP d t J lw (gs g).heap) 0 (TQ g d t (ansV Φ)) 0 [(0, rv (t + 1))] [] := by
  unfold wp_X3_line at hw
  have C := B.1
  have hW := B.2.1
  refine gj_aload_n C dX3_line_0 0 rfl ?_
  refine gj_bipush (v := 9) C dX3_line_1 rfl ?_
  refine tc_X3_is B hw (Nat.le_of_ble_eq_true rfl) (Nat.le_of_ble_eq_true rfl) (Nat.le_of_ble_eq_true rfl) dX3_line_3 (fun r3 J1 l2 br3 hw => ?_)
  refine gj_if_eq (tgt := 81) C dX3_line_6 rfl (fun c4 => ?_) (fun c4 => ?_)
  · have hw := it_t hw c4
    refine gj_aload_n C dX3_line_81 0 rfl ?_
    refine gj_bipush (v := 10) C dX3_line_82 rfl ?_
    refine tc_X3_is B hw (Nat.le_of_ble_eq_true rfl) (Nat.le_of_ble_eq_true rfl) (Nat.le_of_ble_eq_true rfl) dX3_line_84 (fun r7 J5 l6 br7 hw => ?_)
    refine gj_if_eq (tgt := 97) C dX3_line_87 rfl (fun c8 => ?_) (fun c8 => ?_)
    · have hw := it_t hw c8
      refine gj_aload_n C dX3_line_97 0 rfl ?_
      refine gj_bipush (v := 11) C dX3_line_98 rfl ?_
      refine tc_X3_is B hw (Nat.le_of_ble_eq_true rfl) (Nat.le_of_ble_eq_true rfl) (Nat.le_of_ble_eq_true rfl) dX3_line_100 (fun r11 J9 l10 br11 hw => ?_)
      refine gj_if_eq (tgt := 168) C dX3_line_103 rfl (fun c12 => ?_) (fun c12 => ?_)
      · have hw := it_t hw c12
        refine gj_aload_n C dX3_line_168 0 rfl ?_
        refine gj_bipush (v := 12) C dX3_line_169 rfl ?_
        refine tc_X3_is B hw (Nat.le_of_ble_eq_true rfl) (Nat.le_of_ble_eq_true rfl) (Nat.le_of_ble_eq_true rfl) dX3_line_171 (fun r15 J13 l14 br15 hw => ?_)
        refine gj_if_eq (tgt := 184) C dX3_line_174 rfl (fun c16 => ?_) (fun c16 => ?_)
        · have hw := it_t hw c16
          refine gj_aload_n C dX3_line_184 0 rfl ?_
          refine gj_bipush (v := 13) C dX3_line_185 rfl ?_
          refine tc_X3_is B hw (Nat.le_of_ble_eq_true rfl) (Nat.le_of_ble_eq_true rfl) (Nat.le_of_ble_eq_true rfl) dX3_line_187 (fun r19 J17 l18 br19 hw => ?_)
          refine gj_if_eq (tgt := 304) C dX3_line_190 rfl (fun c20 => ?_) (fun c20 => ?_)
          · have hw := it_t hw c20
            refine gj_aload_n C dX3_line_304 0 rfl ?_
            refine gj_iconst (v := 1) C dX3_line_305 rfl ?_
            refine tc_X3_wrong B hw (Nat.le_of_ble_eq_true rfl) (Nat.le_of_ble_eq_true rfl) (Nat.le_of_ble_eq_true rfl) dX3_line_306 (fun J21 l22 hw => ?_)
            exact wq_X3_line_309 B _ _ _ hw
          · have hw := it_f hw c20
            refine gj_aload_n C dX3_line_193 0 rfl ?_
            refine tc_X3_steps B hw (Nat.le_of_ble_eq_true rfl) (Nat.le_of_ble_eq_true rfl) (Nat.le_of_ble_eq_true rfl) dX3_line_194 (fun J29 l30 hw => ?_)
            refine gj_aload_n C dX3_line_197 0 rfl ?_
            refine gj_iconst (v := 0) C dX3_line_198 rfl ?_
            refine gj_iconst (v := 3) C dX3_line_199 rfl ?_
            refine tc_X3_oneOf B hw (Nat.le_of_ble_eq_true rfl) (Nat.le_of_ble_eq_true rfl) (Nat.le_of_ble_eq_true rfl) dX3_line_200 (fun r34 J32 l33 hw => ?_)
            refine gj_istore_n (lc' := [(1, .int r34), (0, rv (t + 1))]) C dX3_line_203 (Nat.le_of_ble_eq_true rfl) rfl ?_
            refine gj_iload_n C dX3_line_204 0 rfl ?_
            refine gj_iconst (v := (-1)) C dX3_line_205 rfl ?_
            refine gj_icmp_eq (tgt := 226) C dX3_line_206 rfl (fun c35 => ?_) (fun c35 => ?_)
            · have hw := it_t hw c35
              refine gj_sub (lc' := [(0, rv (t + 1)), (1, .int r34)]) [1, 0] rfl ?_
              exact wq_X3_line_226 B _ _ _ _ hw
            · have hw := it_f hw c35
              refine gj_aload_n C dX3_line_209 1 rfl ?_
              refine tg238 C hW dX3_line_210 ?_
              refine gj_iload_n C dX3_line_213 0 rfl ?_
              refine gj_ishr C dX3_line_214 ?_
              refine gj_iconst (v := 1) C dX3_line_215 rfl ?_
              refine gj_iand C dX3_line_216 ?_
              refine gj_iconst (v := 1) C dX3_line_217 rfl ?_
              refine gj_icmp_ne (tgt := 226) C dX3_line_218 rfl (fun c60 => ?_) (fun c60 => ?_)
              · have hw := it_f hw c60
                refine gj_sub (lc' := [(0, rv (t + 1)), (1, .int r34)]) [1, 0] rfl ?_
                exact wq_X3_line_226 B _ _ _ _ hw
              · have hw := it_t hw c60
                refine gj_aload_n C dX3_line_221 1 rfl ?_
                refine gj_iconst (v := 5) C dX3_line_222 rfl ?_
                refine tc_X3_wrong B hw (Nat.le_of_ble_eq_true rfl) (Nat.le_of_ble_eq_true rfl) (Nat.le_of_ble_eq_true rfl) dX3_line_223 (fun J61 l62 hw => ?_)
                refine gj_sub (lc' := [(0, rv (t + 1)), (1, .int r34)]) [1, 0] rfl ?_
                exact wq_X3_line_226 B _ _ _ _ hw
        · have hw := it_f hw c16
          refine gj_aload_n C dX3_line_177 0 rfl ?_
          refine tc_X3_readsMay B hw (Nat.le_of_ble_eq_true rfl) (Nat.le_of_ble_eq_true rfl) (Nat.le_of_ble_eq_true rfl) dX3_line_178 (fun J64 l65 hw => ?_)
          refine gj_goto (tgt := 309) C dX3_line_181 rfl ?_
          exact wq_X3_line_309 B _ _ _ hw
      · have hw := it_f hw c12
        refine gj_aload_n C dX3_line_106 0 rfl ?_
        refine tg232 C hW dX3_line_107 ?_
        refine gj_iconst (v := 3) C dX3_line_110 rfl ?_
        refine gj_icmp_ne (tgt := 119) C dX3_line_111 rfl (fun c67 => ?_) (fun c67 => ?_)
        · have hw := it_f hw c67
          exact wq_X3_line_119 B _ _ _ hw
        · have hw := it_t hw c67
          refine gj_aload_n C dX3_line_114 0 rfl ?_
          refine gj_iconst (v := 2) C dX3_line_115 rfl ?_
          refine tc_X3_wrong B hw (Nat.le_of_ble_eq_true rfl) (Nat.le_of_ble_eq_true rfl) (Nat.le_of_ble_eq_true rfl) dX3_line_116 (fun J85 l86 hw => ?_)
          exact wq_X3_line_119 B _ _ _ hw
    · have hw := it_f hw c8
      refine gj_aload_n C dX3_line_90 0 rfl ?_
      refine tc_X3_readsLodger B hw (Nat.le_of_ble_eq_true rfl) (Nat.le_of_ble_eq_true rfl) (Nat.le_of_ble_eq_true rfl) dX3_line_91 (fun J88 l89 hw => ?_)
      refine gj_goto (tgt := 309) C dX3_line_94 rfl ?_
      exact wq_X3_line_309 B _ _ _ hw
  · have hw := it_f hw c4
    refine gj_aload_n C dX3_line_9 0 rfl ?_
    refine tg209 C hW dX3_line_10 ?_
    refine gj_bipush (v := 8) C dX3_line_13 rfl ?_
    refine gj_icmp_ne (tgt := 23) C dX3_line_15 rfl (fun c91 => ?_) (fun c91 => ?_)
    · have hw := it_f hw c91
      exact wq_X3_line_23 B _ _ _ hw
    · have hw := it_t hw c91
      refine gj_aload_n C dX3_line_18 0 rfl ?_
      refine gj_iconst (v := 2) C dX3_line_19 rfl ?_
      refine tc_X3_wrong B hw (Nat.le_of_ble_eq_true rfl) (Nat.le_of_ble_eq_true rfl) (Nat.le_of_ble_eq_true rfl) dX3_line_20 (fun J111 l112 hw => ?_)
      exact wq_X3_line_23 B _ _ _ hw

theorem met_X3_line (l : Launch) {d : TD} {t : Nat} {J : Nat → Nat → Int32} {lw : Int64} {Φ : (Nat → Nat → Int32) → Int64 → Prop} (hw : wp_X3_line Φ J lw) : MetT l yX3_line prog_11_method_26_code 3 none 5 117 [.ref t] d t J lw (ansV Φ) :=
  mt_of (by decide +kernel) rfl (Nat.le_of_ble_eq_true rfl) (fun g _ B => wk_X3_line B _ J lw hw)
theorem tc_X3_line {g : Gm} {d : TD} {t : Nat} {cc : ByteArray} {nL : Nat} {ret : Option FieldType} {fr lo : Nat} (B : BdT g d cc nL ret fr lo) {J : Nat → Nat → Int32} {lw : Int64} {H0 : Heap} {Q : State → Prop} {pc : Nat} {lc : List (Nat × Value)} {rest : List Value} {Φ : (Nat → Nat → Int32) → Int64 → Prop} (hw : wp_X3_line Φ J lw) (hf : 6 ≤ fr) (hlo : 139 ≤ lo) (hrest : (rest.map fun v => v.category).sum ≤ 8) (dg : decode cc pc = .ok (.invokevirtual 245, 3)) (k : ∀ J' lw', Φ J' lw' → GJ g nL (TP d t J' lw' H0) 0 Q (pc + 3) lc (rest)) : GJ g nL (TP d t J lw H0) 0 Q pc lc (rv (t + 1) :: rest) :=
  gt_callV (n := 0) (As := []) B (met_X3_line g.2.1 hw) (lw_V q1443 q1445 qs45 q97 q1446) ⟨rfl, by decide +kernel, by decide +kernel, by decide +kernel⟩ rfl hf hlo ⟨Nat.zero_le _, Nat.zero_le _⟩ rfl hrest dg (fun v J' lw' hp => by obtain ⟨rfl, hp⟩ := hp; exact k J' lw' hp)
/-! copies([I[I)V -/
def wf_X3_copies_2 (k1 : Nat) (k2 : Nat) (Φ : (Nat → Nat → Int32) → Int64 → Prop) (X2 : Int32 → (Nat → Nat → Int32) → Int64 → Prop) (v3 : Int32) (J : Nat → Nat → Int32) (lw : Int64) : Prop :=
(trk k1 ≠ 0 ∧ (if (nI (tln k1)) ≤ v3 then Φ J lw else (trk k1 ≠ 0 ∧ (vp_in v3 (tln k1) ∧ (trk k2 ≠ 0 ∧ (vp_in v3 (tln k2) ∧ (∀ J7 : Nat → Nat → Int32, J7 = u2 J k2 (Int32.toNatClampNeg v3) (J k1 (Int32.toNatClampNeg v3)) → (∀ x8 : Int32, x8 = v3 + 1 → X2 x8 J7 lw))))))))
def wl_X3_copies_2 (k1 : Nat) (k2 : Nat) (Φ : (Nat → Nat → Int32) → Int64 → Prop) (v3 : Int32) (J : Nat → Nat → Int32) (lw : Int64) : Prop := ∀ X2 : Int32 → (Nat → Nat → Int32) → Int64 → Prop, (∀ v3 J lw, wf_X3_copies_2 k1 k2 Φ X2 v3 J lw → X2 v3 J lw) → X2 v3 J lw
theorem wk_X3_copies_2 {g : Gm} {d : TD} {t : Nat} (B : BdT g d prog_11_method_7_code 4 none 0 0) (k1 : Nat) (k2 : Nat) (Φ : (Nat → Nat → Int32) → Int64 → Prop) (X2 : Int32 → (Nat → Nat → Int32) → Int64 → Prop) (hX2 : ∀ v3 J lw, X2 v3 J lw → GJ g 4 (TP d t J lw (gs g).heap) 0 (TQ g d t (ansV Φ)) 2 [(1, rv (ta t k1)), (2, rv (ta t k2)), (3, .int v3)] []) (v3 : Int32) (J : Nat → Nat → Int32) (lw : Int64) (hw : wf_X3_copies_2 k1 k2 Φ X2 v3 J lw) : GJ g 4 (TP d t J lw (gs g).heap) 0 (TQ g d t (ansV Φ)) 2 [(1, rv (ta t k1)), (2, rv (ta t k2)), (3, .int v3)] [] := by
  unfold wf_X3_copies_2 at hw
  have C := B.1
  have hW := B.2.1
  refine gj_iload_n C dX3_copies_2 2 rfl ?_
  refine gj_aload_n C dX3_copies_3 0 rfl ?_
  obtain ⟨h1, hw⟩ := hw
  refine gt_alen C hW h1 dX3_copies_4 ?_
  refine gj_icmp_ge (tgt := 20) C dX3_copies_5 rfl (fun c2 => ?_) (fun c2 => ?_)
  · have hw := it_t hw c2
    exact gt_vret B hw dX3_copies_20
  · have hw := it_f hw c2
    refine gj_aload_n C dX3_copies_8 1 rfl ?_
    refine gj_iload_n C dX3_copies_9 2 rfl ?_
    refine gj_aload_n C dX3_copies_10 0 rfl ?_
    refine gj_iload_n C dX3_copies_11 2 rfl ?_
    obtain ⟨h3, hw⟩ := hw
    obtain ⟨h4, hw⟩ := hw
    refine gt_iald C hW h3 h4 dX3_copies_12 ?_
    obtain ⟨h5, hw⟩ := hw
    obtain ⟨h6, hw⟩ := hw
    refine gt_iast C hW h5 h6 dX3_copies_13 ?_
    refine gt_nmJ (fun J7 eJ7 => ?_)
    have hw := hw J7 eJ7
    obtain ⟨x8, ex8⟩ : ∃ x8 : Int32, x8 = v3 + 1 := ⟨_, rfl⟩
    have hw := hw x8 ex8
    refine gj_iinc (lc' := [(3, .int x8), (1, rv (ta t k1)), (2, rv (ta t k2))]) (w := 1) (v := x8) C dX3_copies_14 2 rfl rfl ex8.symm (Nat.le_of_ble_eq_true rfl) rfl ?_
    refine gj_goto (tgt := 2) C dX3_copies_17 rfl ?_
    refine gj_sub (lc' := [(1, rv (ta t k1)), (2, rv (ta t k2)), (3, .int x8)]) [1, 2, 0] rfl ?_
    exact hX2 _ _ _ hw

theorem wq_X3_copies_2 {g : Gm} {d : TD} {t : Nat} (B : BdT g d prog_11_method_7_code 4 none 0 0) (k1 : Nat) (k2 : Nat) (Φ : (Nat → Nat → Int32) → Int64 → Prop) (v3 : Int32) (J : Nat → Nat → Int32) (lw : Int64) (hw : wl_X3_copies_2 k1 k2 Φ v3 J lw) : GJ g 4 (TP d t J lw (gs g).heap) 0 (TQ g d t (ansV Φ)) 2 [(1, rv (ta t k1)), (2, rv (ta t k2)), (3, .int v3)] [] :=
  hw (fun v3 J lw => GJ g 4 (TP d t J lw (gs g).heap) 0 (TQ g d t (ansV Φ)) 2 [(1, rv (ta t k1)), (2, rv (ta t k2)), (3, .int v3)] []) (fun v3 J lw h => wk_X3_copies_2 B k1 k2 Φ (fun v3 J lw => GJ g 4 (TP d t J lw (gs g).heap) 0 (TQ g d t (ansV Φ)) 2 [(1, rv (ta t k1)), (2, rv (ta t k2)), (3, .int v3)] []) (fun v3 J lw h => h) v3 J lw h)
def wp_X3_copies (k1 : Nat) (k2 : Nat) (Φ : (Nat → Nat → Int32) → Int64 → Prop) (J : Nat → Nat → Int32) (lw : Int64) : Prop :=
wl_X3_copies_2 k1 k2 Φ 0 J lw
theorem wk_X3_copies {g : Gm} {d : TD} {t : Nat} (B : BdT g d prog_11_method_7_code 4 none 0 0) (k1 : Nat) (k2 : Nat) (Φ : (Nat → Nat → Int32) → Int64 → Prop) (J : Nat → Nat → Int32) (lw : Int64) (hw : wp_X3_copies k1 k2 Φ J lw) : GJ g 4 (TP d t J lw (gs g).heap) 0 (TQ g d t (ansV Φ)) 0 [(0, rv (t + 1)), (1, rv (ta t k1)), (2, rv (ta t k2))] [] := by
  unfold wp_X3_copies at hw
  have C := B.1
  have hW := B.2.1
  refine gj_iconst (v := 0) C dX3_copies_0 rfl ?_
  refine gj_istore_n (lc' := [(3, .int 0), (0, rv (t + 1)), (1, rv (ta t k1)), (2, rv (ta t k2))]) C dX3_copies_1 (Nat.le_of_ble_eq_true rfl) rfl ?_
  refine gj_sub (lc' := [(1, rv (ta t k1)), (2, rv (ta t k2)), (3, .int 0)]) [2, 3, 0] rfl ?_
  exact wq_X3_copies_2 B _ _ _ _ _ _ hw

theorem met_X3_copies (l : Launch) {d : TD} {t : Nat} {J : Nat → Nat → Int32} {lw : Int64} {k1 : Nat} {k2 : Nat} {Φ : (Nat → Nat → Int32) → Int64 → Prop} (hw : wp_X3_copies k1 k2 Φ J lw) : MetT l yX3_copies prog_11_method_7_code 4 none 0 0 [.ref t, .ref (t + trk k1), .ref (t + trk k2)] d t J lw (ansV Φ) :=
  mt_of (by decide +kernel) rfl (Nat.le_of_ble_eq_true rfl) (fun g _ B => wk_X3_copies B _ _ _ J lw hw)
theorem tc_X3_copies {g : Gm} {d : TD} {t : Nat} {cc : ByteArray} {nL : Nat} {ret : Option FieldType} {fr lo : Nat} (B : BdT g d cc nL ret fr lo) {J : Nat → Nat → Int32} {lw : Int64} {H0 : Heap} {Q : State → Prop} {pc : Nat} {lc : List (Nat × Value)} {rest : List Value} {k1 : Nat} {k2 : Nat} {Φ : (Nat → Nat → Int32) → Int64 → Prop} (hw : wp_X3_copies k1 k2 Φ J lw) (hf : 1 ≤ fr) (hlo : 23 ≤ lo) (hrest : (rest.map fun v => v.category).sum ≤ 8) (dg : decode cc pc = .ok (.invokevirtual 260, 3)) (k : ∀ J' lw', Φ J' lw' → GJ g nL (TP d t J' lw' H0) 0 Q (pc + 3) lc (rest)) : GJ g nL (TP d t J lw H0) 0 Q pc lc (rv (ta t k2) :: rv (ta t k1) :: rv (t + 1) :: rest) :=
  gt_callV (n := 2) (As := [.ref (t + trk k1), .ref (t + trk k2)]) B (met_X3_copies g.2.1 hw) (lw_V q1490 q1492 qs55 q97 q1493) ⟨rfl, by decide +kernel, by decide +kernel, by decide +kernel⟩ rfl hf hlo ⟨Nat.zero_le _, Nat.zero_le _⟩ rfl hrest dg (fun v J' lw' hp => by obtain ⟨rfl, hp⟩ := hp; exact k J' lw' hp)
/-! lowest(I)I -/
def wf_X3_lowest_2 (p0 : Int32) (Φ : Int32 → (Nat → Nat → Int32) → Int64 → Prop) (X2 : Int32 → (Nat → Nat → Int32) → Int64 → Prop) (v1 : Int32) (J : Nat → Nat → Int32) (lw : Int64) : Prop :=
(if ((p0 >>> (v1 &&& 31)) &&& 1) = 0 then (∀ x2 : Int32, x2 = v1 + 1 → X2 x2 J lw) else Φ v1 J lw)
def wl_X3_lowest_2 (p0 : Int32) (Φ : Int32 → (Nat → Nat → Int32) → Int64 → Prop) (v1 : Int32) (J : Nat → Nat → Int32) (lw : Int64) : Prop := ∀ X2 : Int32 → (Nat → Nat → Int32) → Int64 → Prop, (∀ v1 J lw, wf_X3_lowest_2 p0 Φ X2 v1 J lw → X2 v1 J lw) → X2 v1 J lw
theorem wk_X3_lowest_2 {g : Gm} {d : TD} {t : Nat} (B : BdT g d prog_11_method_29_code 2 (some .int) 0 0) (p0 : Int32) (Φ : Int32 → (Nat → Nat → Int32) → Int64 → Prop) (X2 : Int32 → (Nat → Nat → Int32) → Int64 → Prop) (hX2 : ∀ v1 J lw, X2 v1 J lw → GJ g 2 (TP d t J lw (gs g).heap) 0 (TQ g d t (ansI Φ)) 2 [(0, .int p0), (1, .int v1)] []) (v1 : Int32) (J : Nat → Nat → Int32) (lw : Int64) (hw : wf_X3_lowest_2 p0 Φ X2 v1 J lw) : GJ g 2 (TP d t J lw (gs g).heap) 0 (TQ g d t (ansI Φ)) 2 [(0, .int p0), (1, .int v1)] [] := by
  unfold wf_X3_lowest_2 at hw
  have C := B.1
  have hW := B.2.1
  refine gj_iload_n C dX3_lowest_2 0 rfl ?_
  refine gj_iload_n C dX3_lowest_3 1 rfl ?_
  refine gj_ishr C dX3_lowest_4 ?_
  refine gj_iconst (v := 1) C dX3_lowest_5 rfl ?_
  refine gj_iand C dX3_lowest_6 ?_
  refine gj_if_ne (tgt := 16) C dX3_lowest_7 rfl (fun c1 => ?_) (fun c1 => ?_)
  · have hw := it_f hw c1
    refine gj_iload_n C dX3_lowest_16 1 rfl ?_
    exact gt_iret B hw dX3_lowest_17
  · have hw := it_t hw c1
    obtain ⟨x2, ex2⟩ : ∃ x2 : Int32, x2 = v1 + 1 := ⟨_, rfl⟩
    have hw := hw x2 ex2
    refine gj_iinc (lc' := [(1, .int x2), (0, .int p0)]) (w := 1) (v := x2) C dX3_lowest_10 1 rfl rfl ex2.symm (Nat.le_of_ble_eq_true rfl) rfl ?_
    refine gj_goto (tgt := 2) C dX3_lowest_13 rfl ?_
    refine gj_sub (lc' := [(0, .int p0), (1, .int x2)]) [1, 0] rfl ?_
    exact hX2 _ _ _ hw

theorem wq_X3_lowest_2 {g : Gm} {d : TD} {t : Nat} (B : BdT g d prog_11_method_29_code 2 (some .int) 0 0) (p0 : Int32) (Φ : Int32 → (Nat → Nat → Int32) → Int64 → Prop) (v1 : Int32) (J : Nat → Nat → Int32) (lw : Int64) (hw : wl_X3_lowest_2 p0 Φ v1 J lw) : GJ g 2 (TP d t J lw (gs g).heap) 0 (TQ g d t (ansI Φ)) 2 [(0, .int p0), (1, .int v1)] [] :=
  hw (fun v1 J lw => GJ g 2 (TP d t J lw (gs g).heap) 0 (TQ g d t (ansI Φ)) 2 [(0, .int p0), (1, .int v1)] []) (fun v1 J lw h => wk_X3_lowest_2 B p0 Φ (fun v1 J lw => GJ g 2 (TP d t J lw (gs g).heap) 0 (TQ g d t (ansI Φ)) 2 [(0, .int p0), (1, .int v1)] []) (fun v1 J lw h => h) v1 J lw h)
def wp_X3_lowest (p0 : Int32) (Φ : Int32 → (Nat → Nat → Int32) → Int64 → Prop) (J : Nat → Nat → Int32) (lw : Int64) : Prop :=
wl_X3_lowest_2 p0 Φ 0 J lw
theorem wk_X3_lowest {g : Gm} {d : TD} {t : Nat} (B : BdT g d prog_11_method_29_code 2 (some .int) 0 0) (p0 : Int32) (Φ : Int32 → (Nat → Nat → Int32) → Int64 → Prop) (J : Nat → Nat → Int32) (lw : Int64) (hw : wp_X3_lowest p0 Φ J lw) : GJ g 2 (TP d t J lw (gs g).heap) 0 (TQ g d t (ansI Φ)) 0 [(0, .int p0)] [] := by
  unfold wp_X3_lowest at hw
  have C := B.1
  have hW := B.2.1
  refine gj_iconst (v := 0) C dX3_lowest_0 rfl ?_
  refine gj_istore_n (lc' := [(1, .int 0), (0, .int p0)]) C dX3_lowest_1 (Nat.le_of_ble_eq_true rfl) rfl ?_
  refine gj_sub (lc' := [(0, .int p0), (1, .int 0)]) [1, 0] rfl ?_
  exact wq_X3_lowest_2 B _ _ _ _ _ hw

theorem met_X3_lowest (l : Launch) {d : TD} {t : Nat} {J : Nat → Nat → Int32} {lw : Int64} {p0 : Int32} {Φ : Int32 → (Nat → Nat → Int32) → Int64 → Prop} (hw : wp_X3_lowest p0 Φ J lw) : MetT l yX3_lowest prog_11_method_29_code 2 (some .int) 0 0 [.int p0] d t J lw (ansI Φ) :=
  mt_of (by decide +kernel) rfl (Nat.le_of_ble_eq_true rfl) (fun g _ B => wk_X3_lowest B _ _ J lw hw)
theorem tc_X3_lowest {g : Gm} {d : TD} {t : Nat} {cc : ByteArray} {nL : Nat} {ret : Option FieldType} {fr lo : Nat} (B : BdT g d cc nL ret fr lo) {J : Nat → Nat → Int32} {lw : Int64} {H0 : Heap} {Q : State → Prop} {pc : Nat} {lc : List (Nat × Value)} {rest : List Value} {p0 : Int32} {Φ : Int32 → (Nat → Nat → Int32) → Int64 → Prop} (hw : wp_X3_lowest p0 Φ J lw) (hf : 1 ≤ fr) (hlo : 21 ≤ lo) (hrest : (rest.map fun v => v.category).sum ≤ 8) (dg : decode cc pc = .ok (.invokestatic 280, 3)) (k : ∀ (r : Int32) J' lw', Φ r J' lw' → GJ g nL (TP d t J' lw' H0) 0 Q (pc + 3) lc (.int r :: rest)) : GJ g nL (TP d t J lw H0) 0 Q pc lc (.int p0 :: rest) :=
  gt_callS (n := 1) (As := [.int p0]) B (met_X3_lowest g.2.1 hw) (lw_S q1494 q1495 q97 q1496) ⟨by decide +kernel, by decide +kernel, by decide +kernel⟩ rfl hf hlo ⟨Nat.zero_le _, Nat.zero_le _⟩ rfl hrest dg (fun v J' lw' hp => by obtain ⟨r, rfl, hp⟩ := hp; exact k r J' lw' hp)
/-! house(I)I -/
def wf_X3_house_420 (p1 : Int32) (Φ : Int32 → (Nat → Nat → Int32) → Int64 → Prop) (X410 : Int32 → (Nat → Nat → Int32) → Int64 → Prop) (X420 : Int32 → Int32 → (Nat → Nat → Int32) → Int64 → Prop) (v2 : Int32) (v3 : Int32) (J : Nat → Nat → Int32) (lw : Int64) : Prop :=
(if 24 ≤ v3 then (∀ x71 : Int32, x71 = v2 + 1 → X410 x71 J lw) else (vp_in v2 (tln 9) ∧ (vp_in ((24 * v2) + v3) (tln 39) ∧ (∀ J74 : Nat → Nat → Int32, J74 = u2 J 39 (Int32.toNatClampNeg ((24 * v2) + v3)) (J 9 (Int32.toNatClampNeg v2)) → (∀ x75 : Int32, x75 = v3 + 1 → X420 v2 x75 J74 lw)))))
def wl_X3_house_420 (p1 : Int32) (Φ : Int32 → (Nat → Nat → Int32) → Int64 → Prop) (X410 : Int32 → (Nat → Nat → Int32) → Int64 → Prop) (v2 : Int32) (v3 : Int32) (J : Nat → Nat → Int32) (lw : Int64) : Prop := ∀ X420 : Int32 → Int32 → (Nat → Nat → Int32) → Int64 → Prop, (∀ v2 v3 J lw, wf_X3_house_420 p1 Φ X410 X420 v2 v3 J lw → X420 v2 v3 J lw) → X420 v2 v3 J lw
theorem wk_X3_house_420 {g : Gm} {d : TD} {t : Nat} (B : BdT g d prog_11_method_27_code 4 (some .int) 6 139) (p1 : Int32) (Φ : Int32 → (Nat → Nat → Int32) → Int64 → Prop) (X410 : Int32 → (Nat → Nat → Int32) → Int64 → Prop) (X420 : Int32 → Int32 → (Nat → Nat → Int32) → Int64 → Prop) (hX410 : ∀ v2 J lw, X410 v2 J lw → GJ g 4 (TP d t J lw (gs g).heap) 0 (TQ g d t (ansI Φ)) 410 [(0, rv (t + 1)), (2, .int v2)] []) (hX420 : ∀ v2 v3 J lw, X420 v2 v3 J lw → GJ g 4 (TP d t J lw (gs g).heap) 0 (TQ g d t (ansI Φ)) 420 [(0, rv (t + 1)), (2, .int v2), (3, .int v3)] []) (v2 : Int32) (v3 : Int32) (J : Nat → Nat → Int32) (lw : Int64) (hw : wf_X3_house_420 p1 Φ X410 X420 v2 v3 J lw) : GJ g 4 (TP d t J lw (gs g).heap) 0 (TQ g d t (ansI Φ)) 420 [(0, rv (t + 1)), (2, .int v2), (3, .int v3)] [] := by
  unfold wf_X3_house_420 at hw
  have C := B.1
  have hW := B.2.1
  refine gj_iload_n C dX3_house_420 2 rfl ?_
  refine gj_bipush (v := 24) C dX3_house_421 rfl ?_
  refine gj_icmp_ge (tgt := 449) C dX3_house_423 rfl (fun c70 => ?_) (fun c70 => ?_)
  · have hw := it_t hw c70
    obtain ⟨x71, ex71⟩ : ∃ x71 : Int32, x71 = v2 + 1 := ⟨_, rfl⟩
    have hw := hw x71 ex71
    refine gj_iinc (lc' := [(2, .int x71), (0, rv (t + 1)), (3, .int v3)]) (w := 1) (v := x71) C dX3_house_449 1 rfl rfl ex71.symm (Nat.le_of_ble_eq_true rfl) rfl ?_
    refine gj_goto (tgt := 410) C dX3_house_452 rfl ?_
    refine gj_sub (lc' := [(0, rv (t + 1)), (2, .int x71)]) [1, 0] rfl ?_
    exact hX410 _ _ _ hw
  · have hw := it_f hw c70
    refine gj_aload_n C dX3_house_426 0 rfl ?_
    refine tg68 C hW dX3_house_427 ?_
    refine gj_bipush (v := 24) C dX3_house_430 rfl ?_
    refine gj_iload_n C dX3_house_432 1 rfl ?_
    refine gj_imul C dX3_house_433 ?_
    refine gj_iload_n C dX3_house_434 2 rfl ?_
    refine gj_iadd C dX3_house_435 ?_
    refine gj_aload_n C dX3_house_436 0 rfl ?_
    refine tg22 C hW dX3_house_437 ?_
    refine gj_iload_n C dX3_house_440 1 rfl ?_
    obtain ⟨h72, hw⟩ := hw
    refine gt_iald C hW (by decide) h72 dX3_house_441 ?_
    obtain ⟨h73, hw⟩ := hw
    refine gt_iast C hW (by decide) h73 dX3_house_442 ?_
    refine gt_nmJ (fun J74 eJ74 => ?_)
    have hw := hw J74 eJ74
    obtain ⟨x75, ex75⟩ : ∃ x75 : Int32, x75 = v3 + 1 := ⟨_, rfl⟩
    have hw := hw x75 ex75
    refine gj_iinc (lc' := [(3, .int x75), (0, rv (t + 1)), (2, .int v2)]) (w := 1) (v := x75) C dX3_house_443 2 rfl rfl ex75.symm (Nat.le_of_ble_eq_true rfl) rfl ?_
    refine gj_goto (tgt := 420) C dX3_house_446 rfl ?_
    refine gj_sub (lc' := [(0, rv (t + 1)), (2, .int v2), (3, .int x75)]) [1, 2, 0] rfl ?_
    exact hX420 _ _ _ _ hw

theorem wq_X3_house_420 {g : Gm} {d : TD} {t : Nat} (B : BdT g d prog_11_method_27_code 4 (some .int) 6 139) (p1 : Int32) (Φ : Int32 → (Nat → Nat → Int32) → Int64 → Prop) (X410 : Int32 → (Nat → Nat → Int32) → Int64 → Prop) (hX410 : ∀ v2 J lw, X410 v2 J lw → GJ g 4 (TP d t J lw (gs g).heap) 0 (TQ g d t (ansI Φ)) 410 [(0, rv (t + 1)), (2, .int v2)] []) (v2 : Int32) (v3 : Int32) (J : Nat → Nat → Int32) (lw : Int64) (hw : wl_X3_house_420 p1 Φ X410 v2 v3 J lw) : GJ g 4 (TP d t J lw (gs g).heap) 0 (TQ g d t (ansI Φ)) 420 [(0, rv (t + 1)), (2, .int v2), (3, .int v3)] [] :=
  hw (fun v2 v3 J lw => GJ g 4 (TP d t J lw (gs g).heap) 0 (TQ g d t (ansI Φ)) 420 [(0, rv (t + 1)), (2, .int v2), (3, .int v3)] []) (fun v2 v3 J lw h => wk_X3_house_420 B p1 Φ X410 (fun v2 v3 J lw => GJ g 4 (TP d t J lw (gs g).heap) 0 (TQ g d t (ansI Φ)) 420 [(0, rv (t + 1)), (2, .int v2), (3, .int v3)] []) hX410 (fun v2 v3 J lw h => h) v2 v3 J lw h)
def wf_X3_house_410 (p1 : Int32) (Φ : Int32 → (Nat → Nat → Int32) → Int64 → Prop) (X410 : Int32 → (Nat → Nat → Int32) → Int64 → Prop) (v2 : Int32) (J : Nat → Nat → Int32) (lw : Int64) : Prop :=
(if (J 0 3) ≤ v2 then Φ 0 J lw else wl_X3_house_420 p1 Φ X410 v2 0 J lw)
def wl_X3_house_410 (p1 : Int32) (Φ : Int32 → (Nat → Nat → Int32) → Int64 → Prop) (v2 : Int32) (J : Nat → Nat → Int32) (lw : Int64) : Prop := ∀ X410 : Int32 → (Nat → Nat → Int32) → Int64 → Prop, (∀ v2 J lw, wf_X3_house_410 p1 Φ X410 v2 J lw → X410 v2 J lw) → X410 v2 J lw
theorem wk_X3_house_410 {g : Gm} {d : TD} {t : Nat} (B : BdT g d prog_11_method_27_code 4 (some .int) 6 139) (p1 : Int32) (Φ : Int32 → (Nat → Nat → Int32) → Int64 → Prop) (X410 : Int32 → (Nat → Nat → Int32) → Int64 → Prop) (hX410 : ∀ v2 J lw, X410 v2 J lw → GJ g 4 (TP d t J lw (gs g).heap) 0 (TQ g d t (ansI Φ)) 410 [(0, rv (t + 1)), (2, .int v2)] []) (v2 : Int32) (J : Nat → Nat → Int32) (lw : Int64) (hw : wf_X3_house_410 p1 Φ X410 v2 J lw) : GJ g 4 (TP d t J lw (gs g).heap) 0 (TQ g d t (ansI Φ)) 410 [(0, rv (t + 1)), (2, .int v2)] [] := by
  unfold wf_X3_house_410 at hw
  have C := B.1
  have hW := B.2.1
  refine gj_iload_n C dX3_house_410 1 rfl ?_
  refine gj_aload_n C dX3_house_411 0 rfl ?_
  refine tg254 C hW dX3_house_412 ?_
  refine gj_icmp_ge (tgt := 455) C dX3_house_415 rfl (fun c69 => ?_) (fun c69 => ?_)
  · have hw := it_t hw c69
    refine gj_iconst (v := 0) C dX3_house_455 rfl ?_
    exact gt_iret B hw dX3_house_456
  · have hw := it_f hw c69
    refine gj_iconst (v := 0) C dX3_house_418 rfl ?_
    refine gj_istore_n (lc' := [(3, .int 0), (0, rv (t + 1)), (2, .int v2)]) C dX3_house_419 (Nat.le_of_ble_eq_true rfl) rfl ?_
    refine gj_sub (lc' := [(0, rv (t + 1)), (2, .int v2), (3, .int 0)]) [1, 2, 0] rfl ?_
    exact wq_X3_house_420 B _ _ _ hX410 _ _ _ _ hw

theorem wq_X3_house_410 {g : Gm} {d : TD} {t : Nat} (B : BdT g d prog_11_method_27_code 4 (some .int) 6 139) (p1 : Int32) (Φ : Int32 → (Nat → Nat → Int32) → Int64 → Prop) (v2 : Int32) (J : Nat → Nat → Int32) (lw : Int64) (hw : wl_X3_house_410 p1 Φ v2 J lw) : GJ g 4 (TP d t J lw (gs g).heap) 0 (TQ g d t (ansI Φ)) 410 [(0, rv (t + 1)), (2, .int v2)] [] :=
  hw (fun v2 J lw => GJ g 4 (TP d t J lw (gs g).heap) 0 (TQ g d t (ansI Φ)) 410 [(0, rv (t + 1)), (2, .int v2)] []) (fun v2 J lw h => wk_X3_house_410 B p1 Φ (fun v2 J lw => GJ g 4 (TP d t J lw (gs g).heap) 0 (TQ g d t (ansI Φ)) 410 [(0, rv (t + 1)), (2, .int v2)] []) (fun v2 J lw h => h) v2 J lw h)
def wf_X3_house_365 (p1 : Int32) (Φ : Int32 → (Nat → Nat → Int32) → Int64 → Prop) (X355 : Int32 → (Nat → Nat → Int32) → Int64 → Prop) (X365 : Int32 → Int32 → (Nat → Nat → Int32) → Int64 → Prop) (v2 : Int32) (v3 : Int32) (J : Nat → Nat → Int32) (lw : Int64) : Prop :=
(if 24 ≤ v3 then (∀ x77 : Int32, x77 = v2 + 1 → X355 x77 J lw) else (vp_in ((24 * v2) + v3) (tln 11) ∧ (wp_X3_lowest (J 11 (Int32.toNatClampNeg ((24 * v2) + v3))) (fun r81 J79 l80 => (vp_in ((24 * v2) + v3) (tln 38) ∧ (∀ J83 : Nat → Nat → Int32, J83 = u2 J79 38 (Int32.toNatClampNeg ((24 * v2) + v3)) r81 → (∀ x84 : Int32, x84 = v3 + 1 → X365 v2 x84 J83 l80)))) J lw)))
def wl_X3_house_365 (p1 : Int32) (Φ : Int32 → (Nat → Nat → Int32) → Int64 → Prop) (X355 : Int32 → (Nat → Nat → Int32) → Int64 → Prop) (v2 : Int32) (v3 : Int32) (J : Nat → Nat → Int32) (lw : Int64) : Prop := ∀ X365 : Int32 → Int32 → (Nat → Nat → Int32) → Int64 → Prop, (∀ v2 v3 J lw, wf_X3_house_365 p1 Φ X355 X365 v2 v3 J lw → X365 v2 v3 J lw) → X365 v2 v3 J lw
theorem wk_X3_house_365 {g : Gm} {d : TD} {t : Nat} (B : BdT g d prog_11_method_27_code 4 (some .int) 6 139) (p1 : Int32) (Φ : Int32 → (Nat → Nat → Int32) → Int64 → Prop) (X355 : Int32 → (Nat → Nat → Int32) → Int64 → Prop) (X365 : Int32 → Int32 → (Nat → Nat → Int32) → Int64 → Prop) (hX355 : ∀ v2 J lw, X355 v2 J lw → GJ g 4 (TP d t J lw (gs g).heap) 0 (TQ g d t (ansI Φ)) 355 [(0, rv (t + 1)), (2, .int v2)] []) (hX365 : ∀ v2 v3 J lw, X365 v2 v3 J lw → GJ g 4 (TP d t J lw (gs g).heap) 0 (TQ g d t (ansI Φ)) 365 [(0, rv (t + 1)), (2, .int v2), (3, .int v3)] []) (v2 : Int32) (v3 : Int32) (J : Nat → Nat → Int32) (lw : Int64) (hw : wf_X3_house_365 p1 Φ X355 X365 v2 v3 J lw) : GJ g 4 (TP d t J lw (gs g).heap) 0 (TQ g d t (ansI Φ)) 365 [(0, rv (t + 1)), (2, .int v2), (3, .int v3)] [] := by
  unfold wf_X3_house_365 at hw
  have C := B.1
  have hW := B.2.1
  refine gj_iload_n C dX3_house_365 2 rfl ?_
  refine gj_bipush (v := 24) C dX3_house_366 rfl ?_
  refine gj_icmp_ge (tgt := 402) C dX3_house_368 rfl (fun c76 => ?_) (fun c76 => ?_)
  · have hw := it_t hw c76
    obtain ⟨x77, ex77⟩ : ∃ x77 : Int32, x77 = v2 + 1 := ⟨_, rfl⟩
    have hw := hw x77 ex77
    refine gj_iinc (lc' := [(2, .int x77), (0, rv (t + 1)), (3, .int v3)]) (w := 1) (v := x77) C dX3_house_402 1 rfl rfl ex77.symm (Nat.le_of_ble_eq_true rfl) rfl ?_
    refine gj_goto (tgt := 355) C dX3_house_405 rfl ?_
    refine gj_sub (lc' := [(0, rv (t + 1)), (2, .int x77)]) [1, 0] rfl ?_
    exact hX355 _ _ _ hw
  · have hw := it_f hw c76
    refine gj_aload_n C dX3_house_371 0 rfl ?_
    refine tg65 C hW dX3_house_372 ?_
    refine gj_bipush (v := 24) C dX3_house_375 rfl ?_
    refine gj_iload_n C dX3_house_377 1 rfl ?_
    refine gj_imul C dX3_house_378 ?_
    refine gj_iload_n C dX3_house_379 2 rfl ?_
    refine gj_iadd C dX3_house_380 ?_
    refine gj_aload_n C dX3_house_381 0 rfl ?_
    refine tg28 C hW dX3_house_382 ?_
    refine gj_bipush (v := 24) C dX3_house_385 rfl ?_
    refine gj_iload_n C dX3_house_387 1 rfl ?_
    refine gj_imul C dX3_house_388 ?_
    refine gj_iload_n C dX3_house_389 2 rfl ?_
    refine gj_iadd C dX3_house_390 ?_
    obtain ⟨h78, hw⟩ := hw
    refine gt_iald C hW (by decide) h78 dX3_house_391 ?_
    refine tc_X3_lowest B hw (Nat.le_of_ble_eq_true rfl) (Nat.le_of_ble_eq_true rfl) (Nat.le_of_ble_eq_true rfl) dX3_house_392 (fun r81 J79 l80 hw => ?_)
    obtain ⟨h82, hw⟩ := hw
    refine gt_iast C hW (by decide) h82 dX3_house_395 ?_
    refine gt_nmJ (fun J83 eJ83 => ?_)
    have hw := hw J83 eJ83
    obtain ⟨x84, ex84⟩ : ∃ x84 : Int32, x84 = v3 + 1 := ⟨_, rfl⟩
    have hw := hw x84 ex84
    refine gj_iinc (lc' := [(3, .int x84), (0, rv (t + 1)), (2, .int v2)]) (w := 1) (v := x84) C dX3_house_396 2 rfl rfl ex84.symm (Nat.le_of_ble_eq_true rfl) rfl ?_
    refine gj_goto (tgt := 365) C dX3_house_399 rfl ?_
    refine gj_sub (lc' := [(0, rv (t + 1)), (2, .int v2), (3, .int x84)]) [1, 2, 0] rfl ?_
    exact hX365 _ _ _ _ hw

theorem wq_X3_house_365 {g : Gm} {d : TD} {t : Nat} (B : BdT g d prog_11_method_27_code 4 (some .int) 6 139) (p1 : Int32) (Φ : Int32 → (Nat → Nat → Int32) → Int64 → Prop) (X355 : Int32 → (Nat → Nat → Int32) → Int64 → Prop) (hX355 : ∀ v2 J lw, X355 v2 J lw → GJ g 4 (TP d t J lw (gs g).heap) 0 (TQ g d t (ansI Φ)) 355 [(0, rv (t + 1)), (2, .int v2)] []) (v2 : Int32) (v3 : Int32) (J : Nat → Nat → Int32) (lw : Int64) (hw : wl_X3_house_365 p1 Φ X355 v2 v3 J lw) : GJ g 4 (TP d t J lw (gs g).heap) 0 (TQ g d t (ansI Φ)) 365 [(0, rv (t + 1)), (2, .int v2), (3, .int v3)] [] :=
  hw (fun v2 v3 J lw => GJ g 4 (TP d t J lw (gs g).heap) 0 (TQ g d t (ansI Φ)) 365 [(0, rv (t + 1)), (2, .int v2), (3, .int v3)] []) (fun v2 v3 J lw h => wk_X3_house_365 B p1 Φ X355 (fun v2 v3 J lw => GJ g 4 (TP d t J lw (gs g).heap) 0 (TQ g d t (ansI Φ)) 365 [(0, rv (t + 1)), (2, .int v2), (3, .int v3)] []) hX355 (fun v2 v3 J lw h => h) v2 v3 J lw h)
def wf_X3_house_355 (p1 : Int32) (Φ : Int32 → (Nat → Nat → Int32) → Int64 → Prop) (X355 : Int32 → (Nat → Nat → Int32) → Int64 → Prop) (v2 : Int32) (J : Nat → Nat → Int32) (lw : Int64) : Prop :=
(if (J 0 2) ≤ v2 then wl_X3_house_410 p1 Φ 0 J lw else wl_X3_house_365 p1 Φ X355 v2 0 J lw)
def wl_X3_house_355 (p1 : Int32) (Φ : Int32 → (Nat → Nat → Int32) → Int64 → Prop) (v2 : Int32) (J : Nat → Nat → Int32) (lw : Int64) : Prop := ∀ X355 : Int32 → (Nat → Nat → Int32) → Int64 → Prop, (∀ v2 J lw, wf_X3_house_355 p1 Φ X355 v2 J lw → X355 v2 J lw) → X355 v2 J lw
theorem wk_X3_house_355 {g : Gm} {d : TD} {t : Nat} (B : BdT g d prog_11_method_27_code 4 (some .int) 6 139) (p1 : Int32) (Φ : Int32 → (Nat → Nat → Int32) → Int64 → Prop) (X355 : Int32 → (Nat → Nat → Int32) → Int64 → Prop) (hX355 : ∀ v2 J lw, X355 v2 J lw → GJ g 4 (TP d t J lw (gs g).heap) 0 (TQ g d t (ansI Φ)) 355 [(0, rv (t + 1)), (2, .int v2)] []) (v2 : Int32) (J : Nat → Nat → Int32) (lw : Int64) (hw : wf_X3_house_355 p1 Φ X355 v2 J lw) : GJ g 4 (TP d t J lw (gs g).heap) 0 (TQ g d t (ansI Φ)) 355 [(0, rv (t + 1)), (2, .int v2)] [] := by
  unfold wf_X3_house_355 at hw
  have C := B.1
  have hW := B.2.1
  refine gj_iload_n C dX3_house_355 1 rfl ?_
  refine gj_aload_n C dX3_house_356 0 rfl ?_
  refine tg251 C hW dX3_house_357 ?_
  refine gj_icmp_ge (tgt := 408) C dX3_house_360 rfl (fun c68 => ?_) (fun c68 => ?_)
  · have hw := it_t hw c68
    refine gj_iconst (v := 0) C dX3_house_408 rfl ?_
    refine gj_istore_n (lc' := [(2, .int 0), (0, rv (t + 1))]) C dX3_house_409 (Nat.le_of_ble_eq_true rfl) rfl ?_
    refine gj_sub (lc' := [(0, rv (t + 1)), (2, .int 0)]) [1, 0] rfl ?_
    exact wq_X3_house_410 B _ _ _ _ _ hw
  · have hw := it_f hw c68
    refine gj_iconst (v := 0) C dX3_house_363 rfl ?_
    refine gj_istore_n (lc' := [(3, .int 0), (0, rv (t + 1)), (2, .int v2)]) C dX3_house_364 (Nat.le_of_ble_eq_true rfl) rfl ?_
    refine gj_sub (lc' := [(0, rv (t + 1)), (2, .int v2), (3, .int 0)]) [1, 2, 0] rfl ?_
    exact wq_X3_house_365 B _ _ _ hX355 _ _ _ _ hw

theorem wq_X3_house_355 {g : Gm} {d : TD} {t : Nat} (B : BdT g d prog_11_method_27_code 4 (some .int) 6 139) (p1 : Int32) (Φ : Int32 → (Nat → Nat → Int32) → Int64 → Prop) (v2 : Int32) (J : Nat → Nat → Int32) (lw : Int64) (hw : wl_X3_house_355 p1 Φ v2 J lw) : GJ g 4 (TP d t J lw (gs g).heap) 0 (TQ g d t (ansI Φ)) 355 [(0, rv (t + 1)), (2, .int v2)] [] :=
  hw (fun v2 J lw => GJ g 4 (TP d t J lw (gs g).heap) 0 (TQ g d t (ansI Φ)) 355 [(0, rv (t + 1)), (2, .int v2)] []) (fun v2 J lw h => wk_X3_house_355 B p1 Φ (fun v2 J lw => GJ g 4 (TP d t J lw (gs g).heap) 0 (TQ g d t (ansI Φ)) 355 [(0, rv (t + 1)), (2, .int v2)] []) (fun v2 J lw h => h) v2 J lw h)
def wj_X3_house_316 (p1 : Int32) (Φ : Int32 → (Nat → Nat → Int32) → Int64 → Prop) (X285 : Int32 → (Nat → Nat → Int32) → Int64 → Prop) (v2 : Int32) (s0 : Int32) (s1 : Int32) (J : Nat → Nat → Int32) (lw : Int64) : Prop :=
(vp_in s1 (tln 11) ∧ (∀ J89 : Nat → Nat → Int32, J89 = u2 J 11 (Int32.toNatClampNeg s1) s0 → (∀ x90 : Int32, x90 = v2 + 1 → X285 x90 J89 lw)))
theorem wq_X3_house_316 {g : Gm} {d : TD} {t : Nat} (B : BdT g d prog_11_method_27_code 4 (some .int) 6 139) (p1 : Int32) (Φ : Int32 → (Nat → Nat → Int32) → Int64 → Prop) (X285 : Int32 → (Nat → Nat → Int32) → Int64 → Prop) (hX285 : ∀ v2 J lw, X285 v2 J lw → GJ g 4 (TP d t J lw (gs g).heap) 0 (TQ g d t (ansI Φ)) 285 [(0, rv (t + 1)), (2, .int v2)] []) (v2 : Int32) (s0 : Int32) (s1 : Int32) (J : Nat → Nat → Int32) (lw : Int64) (hw : wj_X3_house_316 p1 Φ X285 v2 s0 s1 J lw) : GJ g 4 (TP d t J lw (gs g).heap) 0 (TQ g d t (ansI Φ)) 316 [(0, rv (t + 1)), (2, .int v2)] [.int s0, .int s1, rv (ta t 11)] := by
  unfold wj_X3_house_316 at hw
  have C := B.1
  have hW := B.2.1
  obtain ⟨h88, hw⟩ := hw
  refine gt_iast C hW (by decide) h88 dX3_house_316 ?_
  refine gt_nmJ (fun J89 eJ89 => ?_)
  have hw := hw J89 eJ89
  obtain ⟨x90, ex90⟩ : ∃ x90 : Int32, x90 = v2 + 1 := ⟨_, rfl⟩
  have hw := hw x90 ex90
  refine gj_iinc (lc' := [(2, .int x90), (0, rv (t + 1))]) (w := 1) (v := x90) C dX3_house_317 1 rfl rfl ex90.symm (Nat.le_of_ble_eq_true rfl) rfl ?_
  refine gj_goto (tgt := 285) C dX3_house_320 rfl ?_
  refine gj_sub (lc' := [(0, rv (t + 1)), (2, .int x90)]) [1, 0] rfl ?_
  exact hX285 _ _ _ hw

def wf_X3_house_285 (p1 : Int32) (Φ : Int32 → (Nat → Nat → Int32) → Int64 → Prop) (X285 : Int32 → (Nat → Nat → Int32) → Int64 → Prop) (v2 : Int32) (J : Nat → Nat → Int32) (lw : Int64) : Prop :=
(if 144 ≤ v2 then (∀ J62 : Nat → Nat → Int32, J62 = u2 J 0 36 0 → (∀ J63 : Nat → Nat → Int32, J63 = u2 J62 0 40 (-1) → (∀ J64 : Nat → Nat → Int32, J64 = u2 J63 0 41 0 → (∀ J65 : Nat → Nat → Int32, J65 = u2 J64 0 52 0 → (∀ J66 : Nat → Nat → Int32, J66 = u2 J65 0 56 0 → (∀ J67 : Nat → Nat → Int32, J67 = u2 J66 0 63 0 → wl_X3_house_355 p1 Φ 0 J67 lw)))))) else (vp_in v2 (tln 35) ∧ (if (J 35 (Int32.toNatClampNeg v2)) = 0 then wj_X3_house_316 p1 Φ X285 v2 1 v2 J lw else (vp_in v2 (tln 35) ∧ wj_X3_house_316 p1 Φ X285 v2 (J 35 (Int32.toNatClampNeg v2)) v2 J lw))))
def wl_X3_house_285 (p1 : Int32) (Φ : Int32 → (Nat → Nat → Int32) → Int64 → Prop) (v2 : Int32) (J : Nat → Nat → Int32) (lw : Int64) : Prop := ∀ X285 : Int32 → (Nat → Nat → Int32) → Int64 → Prop, (∀ v2 J lw, wf_X3_house_285 p1 Φ X285 v2 J lw → X285 v2 J lw) → X285 v2 J lw
theorem wk_X3_house_285 {g : Gm} {d : TD} {t : Nat} (B : BdT g d prog_11_method_27_code 4 (some .int) 6 139) (p1 : Int32) (Φ : Int32 → (Nat → Nat → Int32) → Int64 → Prop) (X285 : Int32 → (Nat → Nat → Int32) → Int64 → Prop) (hX285 : ∀ v2 J lw, X285 v2 J lw → GJ g 4 (TP d t J lw (gs g).heap) 0 (TQ g d t (ansI Φ)) 285 [(0, rv (t + 1)), (2, .int v2)] []) (v2 : Int32) (J : Nat → Nat → Int32) (lw : Int64) (hw : wf_X3_house_285 p1 Φ X285 v2 J lw) : GJ g 4 (TP d t J lw (gs g).heap) 0 (TQ g d t (ansI Φ)) 285 [(0, rv (t + 1)), (2, .int v2)] [] := by
  unfold wf_X3_house_285 at hw
  have C := B.1
  have hW := B.2.1
  refine gj_iload_n C dX3_house_285 1 rfl ?_
  refine gj_sipush (v := 144) C dX3_house_286 rfl ?_
  refine gj_icmp_ge (tgt := 323) C dX3_house_289 rfl (fun c61 => ?_) (fun c61 => ?_)
  · have hw := it_t hw c61
    refine gj_aload_n C dX3_house_323 0 rfl ?_
    refine gj_iconst (v := 0) C dX3_house_324 rfl ?_
    refine tp264 C hW dX3_house_325 ?_
    refine gt_nmJ (fun J62 eJ62 => ?_)
    have hw := hw J62 eJ62
    refine gj_aload_n C dX3_house_328 0 rfl ?_
    refine gj_iconst (v := (-1)) C dX3_house_329 rfl ?_
    refine tp71 C hW dX3_house_330 ?_
    refine gt_nmJ (fun J63 eJ63 => ?_)
    have hw := hw J63 eJ63
    refine gj_aload_n C dX3_house_333 0 rfl ?_
    refine gj_iconst (v := 0) C dX3_house_334 rfl ?_
    refine tp267 C hW dX3_house_335 ?_
    refine gt_nmJ (fun J64 eJ64 => ?_)
    have hw := hw J64 eJ64
    refine gj_aload_n C dX3_house_338 0 rfl ?_
    refine gj_iconst (v := 0) C dX3_house_339 rfl ?_
    refine tp270 C hW dX3_house_340 ?_
    refine gt_nmJ (fun J65 eJ65 => ?_)
    have hw := hw J65 eJ65
    refine gj_aload_n C dX3_house_343 0 rfl ?_
    refine gj_iconst (v := 0) C dX3_house_344 rfl ?_
    refine tp273 C hW (Or.inl rfl) dX3_house_345 ?_
    refine gt_nmJ (fun J66 eJ66 => ?_)
    have hw := hw J66 eJ66
    refine gj_aload_n C dX3_house_348 0 rfl ?_
    refine gj_iconst (v := 0) C dX3_house_349 rfl ?_
    refine tp277 C hW (Or.inl rfl) dX3_house_350 ?_
    refine gt_nmJ (fun J67 eJ67 => ?_)
    have hw := hw J67 eJ67
    refine gj_iconst (v := 0) C dX3_house_353 rfl ?_
    refine gj_istore_n (lc' := [(2, .int 0), (0, rv (t + 1))]) C dX3_house_354 (Nat.le_of_ble_eq_true rfl) rfl ?_
    refine gj_sub (lc' := [(0, rv (t + 1)), (2, .int 0)]) [1, 0] rfl ?_
    exact wq_X3_house_355 B _ _ _ _ _ hw
  · have hw := it_f hw c61
    refine gj_aload_n C dX3_house_292 0 rfl ?_
    refine tg28 C hW dX3_house_293 ?_
    refine gj_iload_n C dX3_house_296 1 rfl ?_
    refine gj_aload_n C dX3_house_297 0 rfl ?_
    refine tg59 C hW dX3_house_298 ?_
    refine gj_iload_n C dX3_house_301 1 rfl ?_
    obtain ⟨h85, hw⟩ := hw
    refine gt_iald C hW (by decide) h85 dX3_house_302 ?_
    refine gj_if_ne (tgt := 310) C dX3_house_303 rfl (fun c86 => ?_) (fun c86 => ?_)
    · have hw := it_f hw c86
      refine gj_aload_n C dX3_house_310 0 rfl ?_
      refine tg59 C hW dX3_house_311 ?_
      refine gj_iload_n C dX3_house_314 1 rfl ?_
      obtain ⟨h87, hw⟩ := hw
      refine gt_iald C hW (by decide) h87 dX3_house_315 ?_
      exact wq_X3_house_316 B _ _ _ hX285 _ _ _ _ _ hw
    · have hw := it_t hw c86
      refine gj_iconst (v := 1) C dX3_house_306 rfl ?_
      refine gj_goto (tgt := 316) C dX3_house_307 rfl ?_
      exact wq_X3_house_316 B _ _ _ hX285 _ _ _ _ _ hw

theorem wq_X3_house_285 {g : Gm} {d : TD} {t : Nat} (B : BdT g d prog_11_method_27_code 4 (some .int) 6 139) (p1 : Int32) (Φ : Int32 → (Nat → Nat → Int32) → Int64 → Prop) (v2 : Int32) (J : Nat → Nat → Int32) (lw : Int64) (hw : wl_X3_house_285 p1 Φ v2 J lw) : GJ g 4 (TP d t J lw (gs g).heap) 0 (TQ g d t (ansI Φ)) 285 [(0, rv (t + 1)), (2, .int v2)] [] :=
  hw (fun v2 J lw => GJ g 4 (TP d t J lw (gs g).heap) 0 (TQ g d t (ansI Φ)) 285 [(0, rv (t + 1)), (2, .int v2)] []) (fun v2 J lw h => wk_X3_house_285 B p1 Φ (fun v2 J lw => GJ g 4 (TP d t J lw (gs g).heap) 0 (TQ g d t (ansI Φ)) 285 [(0, rv (t + 1)), (2, .int v2)] []) (fun v2 J lw h => h) v2 J lw h)
def wj_X3_house_157 (p1 : Int32) (Φ : Int32 → (Nat → Nat → Int32) → Int64 → Prop) (J : Nat → Nat → Int32) (lw : Int64) : Prop :=
(wp_X3_isGood (fun r37 J35 l36 => (if r37 = 0 then (vp_in 0 (tln 16) ∧ (vp_in 0 (tln 16) ∧ (∀ J93 : Nat → Nat → Int32, J93 = u2 J35 16 (Int32.toNatClampNeg 0) ((J35 16 (Int32.toNatClampNeg 0)) + 1) → Φ (J93 0 14) J93 l36))) else (∀ J39 : Nat → Nat → Int32, J39 = u2 J35 0 1 (J35 0 24) → (∀ J40 : Nat → Nat → Int32, J40 = u2 J39 0 2 (J39 0 25) → (∀ J41 : Nat → Nat → Int32, J41 = u2 J40 0 3 (J40 0 26) → (∀ J42 : Nat → Nat → Int32, J42 = u2 J41 0 4 (J41 0 27) → (wp_X3_copies 29 5 (fun J43 l44 => (wp_X3_copies 30 6 (fun J46 l47 => (wp_X3_copies 31 7 (fun J49 l50 => (wp_X3_copies 32 8 (fun J52 l53 => (wp_X3_copies 33 9 (fun J55 l56 => (wp_X3_copies 34 10 (fun J58 l59 => wl_X3_house_285 p1 Φ 0 J58 l59) J55 l56)) J52 l53)) J49 l50)) J46 l47)) J43 l44)) J42 l36))))))) J lw)
theorem wq_X3_house_157 {g : Gm} {d : TD} {t : Nat} (B : BdT g d prog_11_method_27_code 4 (some .int) 6 139) (p1 : Int32) (Φ : Int32 → (Nat → Nat → Int32) → Int64 → Prop) (J : Nat → Nat → Int32) (lw : Int64) (hw : wj_X3_house_157 p1 Φ J lw) : GJ g 4 (TP d t J lw (gs g).heap) 0 (TQ g d t (ansI Φ)) 157 [(0, rv (t + 1))] [] := by
  unfold wj_X3_house_157 at hw
  have C := B.1
  have hW := B.2.1
  refine gj_aload_n C dX3_house_157 0 rfl ?_
  refine tc_X3_isGood B hw (Nat.le_of_ble_eq_true rfl) (Nat.le_of_ble_eq_true rfl) (Nat.le_of_ble_eq_true rfl) dX3_house_158 (fun r37 J35 l36 br37 hw => ?_)
  refine gj_if_ne (tgt := 179) C dX3_house_161 rfl (fun c38 => ?_) (fun c38 => ?_)
  · have hw := it_f hw c38
    refine gj_aload_n C dX3_house_179 0 rfl ?_
    refine gj_aload_n C dX3_house_180 0 rfl ?_
    refine tg209 C hW dX3_house_181 ?_
    refine tp248 C hW dX3_house_184 ?_
    refine gt_nmJ (fun J39 eJ39 => ?_)
    have hw := hw J39 eJ39
    refine gj_aload_n C dX3_house_187 0 rfl ?_
    refine gj_aload_n C dX3_house_188 0 rfl ?_
    refine tg206 C hW dX3_house_189 ?_
    refine tp251 C hW dX3_house_192 ?_
    refine gt_nmJ (fun J40 eJ40 => ?_)
    have hw := hw J40 eJ40
    refine gj_aload_n C dX3_house_195 0 rfl ?_
    refine gj_aload_n C dX3_house_196 0 rfl ?_
    refine tg232 C hW dX3_house_197 ?_
    refine tp254 C hW dX3_house_200 ?_
    refine gt_nmJ (fun J41 eJ41 => ?_)
    have hw := hw J41 eJ41
    refine gj_aload_n C dX3_house_203 0 rfl ?_
    refine gj_aload_n C dX3_house_204 0 rfl ?_
    refine tg212 C hW dX3_house_205 ?_
    refine tp257 C hW dX3_house_208 ?_
    refine gt_nmJ (fun J42 eJ42 => ?_)
    have hw := hw J42 eJ42
    refine gj_aload_n C dX3_house_211 0 rfl ?_
    refine gj_aload_n C dX3_house_212 0 rfl ?_
    refine tg41 C hW dX3_house_213 ?_
    refine gj_aload_n C dX3_house_216 0 rfl ?_
    refine tg7 C hW dX3_house_217 ?_
    refine tc_X3_copies B hw (Nat.le_of_ble_eq_true rfl) (Nat.le_of_ble_eq_true rfl) (Nat.le_of_ble_eq_true rfl) dX3_house_220 (fun J43 l44 hw => ?_)
    refine gj_aload_n C dX3_house_223 0 rfl ?_
    refine gj_aload_n C dX3_house_224 0 rfl ?_
    refine tg44 C hW dX3_house_225 ?_
    refine gj_aload_n C dX3_house_228 0 rfl ?_
    refine tg13 C hW dX3_house_229 ?_
    refine tc_X3_copies B hw (Nat.le_of_ble_eq_true rfl) (Nat.le_of_ble_eq_true rfl) (Nat.le_of_ble_eq_true rfl) dX3_house_232 (fun J46 l47 hw => ?_)
    refine gj_aload_n C dX3_house_235 0 rfl ?_
    refine gj_aload_n C dX3_house_236 0 rfl ?_
    refine tg47 C hW dX3_house_237 ?_
    refine gj_aload_n C dX3_house_240 0 rfl ?_
    refine tg16 C hW dX3_house_241 ?_
    refine tc_X3_copies B hw (Nat.le_of_ble_eq_true rfl) (Nat.le_of_ble_eq_true rfl) (Nat.le_of_ble_eq_true rfl) dX3_house_244 (fun J49 l50 hw => ?_)
    refine gj_aload_n C dX3_house_247 0 rfl ?_
    refine gj_aload_n C dX3_house_248 0 rfl ?_
    refine tg50 C hW dX3_house_249 ?_
    refine gj_aload_n C dX3_house_252 0 rfl ?_
    refine tg19 C hW dX3_house_253 ?_
    refine tc_X3_copies B hw (Nat.le_of_ble_eq_true rfl) (Nat.le_of_ble_eq_true rfl) (Nat.le_of_ble_eq_true rfl) dX3_house_256 (fun J52 l53 hw => ?_)
    refine gj_aload_n C dX3_house_259 0 rfl ?_
    refine gj_aload_n C dX3_house_260 0 rfl ?_
    refine tg53 C hW dX3_house_261 ?_
    refine gj_aload_n C dX3_house_264 0 rfl ?_
    refine tg22 C hW dX3_house_265 ?_
    refine tc_X3_copies B hw (Nat.le_of_ble_eq_true rfl) (Nat.le_of_ble_eq_true rfl) (Nat.le_of_ble_eq_true rfl) dX3_house_268 (fun J55 l56 hw => ?_)
    refine gj_aload_n C dX3_house_271 0 rfl ?_
    refine gj_aload_n C dX3_house_272 0 rfl ?_
    refine tg56 C hW dX3_house_273 ?_
    refine gj_aload_n C dX3_house_276 0 rfl ?_
    refine tg25 C hW dX3_house_277 ?_
    refine tc_X3_copies B hw (Nat.le_of_ble_eq_true rfl) (Nat.le_of_ble_eq_true rfl) (Nat.le_of_ble_eq_true rfl) dX3_house_280 (fun J58 l59 hw => ?_)
    refine gj_iconst (v := 0) C dX3_house_283 rfl ?_
    refine gj_istore_n (lc' := [(2, .int 0), (0, rv (t + 1))]) C dX3_house_284 (Nat.le_of_ble_eq_true rfl) rfl ?_
    refine gj_sub (lc' := [(0, rv (t + 1)), (2, .int 0)]) [1, 0] rfl ?_
    exact wq_X3_house_285 B _ _ _ _ _ hw
  · have hw := it_t hw c38
    refine gj_aload_n C dX3_house_164 0 rfl ?_
    refine tg38 C hW dX3_house_165 ?_
    refine gj_iconst (v := 0) C dX3_house_168 rfl ?_
    refine gj_dup2_11 C dX3_house_169 rfl (rv_cat _) ?_
    obtain ⟨h91, hw⟩ := hw
    refine gt_iald C hW (by decide) h91 dX3_house_170 ?_
    refine gj_iconst (v := 1) C dX3_house_171 rfl ?_
    refine gj_iadd C dX3_house_172 ?_
    obtain ⟨h92, hw⟩ := hw
    refine gt_iast C hW (by decide) h92 dX3_house_173 ?_
    refine gt_nmJ (fun J93 eJ93 => ?_)
    have hw := hw J93 eJ93
    refine gj_aload_n C dX3_house_174 0 rfl ?_
    refine tg187 C hW dX3_house_175 ?_
    exact gt_iret B hw dX3_house_178

def wf_X3_house_136 (p1 : Int32) (Φ : Int32 → (Nat → Nat → Int32) → Int64 → Prop) (X136 : (Nat → Nat → Int32) → Int64 → Prop) (J : Nat → Nat → Int32) (lw : Int64) : Prop :=
(wp_X3_isGood (fun r33 J31 l32 => (if r33 = 0 then wj_X3_house_157 p1 Φ J31 l32 else (if (J31 0 19) = 0 then wj_X3_house_157 p1 Φ J31 l32 else (wp_X3_line (fun J95 l96 => X136 J95 l96) J31 l32)))) J lw)
def wl_X3_house_136 (p1 : Int32) (Φ : Int32 → (Nat → Nat → Int32) → Int64 → Prop) (J : Nat → Nat → Int32) (lw : Int64) : Prop := ∀ X136 : (Nat → Nat → Int32) → Int64 → Prop, (∀ J lw, wf_X3_house_136 p1 Φ X136 J lw → X136 J lw) → X136 J lw
theorem wk_X3_house_136 {g : Gm} {d : TD} {t : Nat} (B : BdT g d prog_11_method_27_code 4 (some .int) 6 139) (p1 : Int32) (Φ : Int32 → (Nat → Nat → Int32) → Int64 → Prop) (X136 : (Nat → Nat → Int32) → Int64 → Prop) (hX136 : ∀ J lw, X136 J lw → GJ g 4 (TP d t J lw (gs g).heap) 0 (TQ g d t (ansI Φ)) 136 [(0, rv (t + 1))] []) (J : Nat → Nat → Int32) (lw : Int64) (hw : wf_X3_house_136 p1 Φ X136 J lw) : GJ g 4 (TP d t J lw (gs g).heap) 0 (TQ g d t (ansI Φ)) 136 [(0, rv (t + 1))] [] := by
  unfold wf_X3_house_136 at hw
  have C := B.1
  have hW := B.2.1
  refine gj_aload_n C dX3_house_136 0 rfl ?_
  refine tc_X3_isGood B hw (Nat.le_of_ble_eq_true rfl) (Nat.le_of_ble_eq_true rfl) (Nat.le_of_ble_eq_true rfl) dX3_house_137 (fun r33 J31 l32 br33 hw => ?_)
  refine gj_if_eq (tgt := 157) C dX3_house_140 rfl (fun c34 => ?_) (fun c34 => ?_)
  · have hw := it_t hw c34
    exact wq_X3_house_157 B _ _ _ _ hw
  · have hw := it_f hw c34
    refine gj_aload_n C dX3_house_143 0 rfl ?_
    refine tg164 C hW dX3_house_144 ?_
    refine gj_if_eq (tgt := 157) C dX3_house_147 rfl (fun c94 => ?_) (fun c94 => ?_)
    · have hw := it_t hw c94
      exact wq_X3_house_157 B _ _ _ _ hw
    · have hw := it_f hw c94
      refine gj_aload_n C dX3_house_150 0 rfl ?_
      refine tc_X3_line B hw (Nat.le_of_ble_eq_true rfl) (Nat.le_of_ble_eq_true rfl) (Nat.le_of_ble_eq_true rfl) dX3_house_151 (fun J95 l96 hw => ?_)
      refine gj_goto (tgt := 136) C dX3_house_154 rfl ?_
      exact hX136 _ _ hw

theorem wq_X3_house_136 {g : Gm} {d : TD} {t : Nat} (B : BdT g d prog_11_method_27_code 4 (some .int) 6 139) (p1 : Int32) (Φ : Int32 → (Nat → Nat → Int32) → Int64 → Prop) (J : Nat → Nat → Int32) (lw : Int64) (hw : wl_X3_house_136 p1 Φ J lw) : GJ g 4 (TP d t J lw (gs g).heap) 0 (TQ g d t (ansI Φ)) 136 [(0, rv (t + 1))] [] :=
  hw (fun J lw => GJ g 4 (TP d t J lw (gs g).heap) 0 (TQ g d t (ansI Φ)) 136 [(0, rv (t + 1))] []) (fun J lw h => wk_X3_house_136 B p1 Φ (fun J lw => GJ g 4 (TP d t J lw (gs g).heap) 0 (TQ g d t (ansI Φ)) 136 [(0, rv (t + 1))] []) (fun J lw h => h) J lw h)
def wf_X3_house_112 (p1 : Int32) (Φ : Int32 → (Nat → Nat → Int32) → Int64 → Prop) (X112 : Int32 → (Nat → Nat → Int32) → Int64 → Prop) (v2 : Int32) (J : Nat → Nat → Int32) (lw : Int64) : Prop :=
(if 144 ≤ v2 then (wp_X3_steps (fun J28 l29 => wl_X3_house_136 p1 Φ J28 l29) J lw) else (vp_in v2 (tln 35) ∧ (∀ J99 : Nat → Nat → Int32, J99 = u2 J 35 (Int32.toNatClampNeg v2) 0 → (∀ x100 : Int32, x100 = v2 + 1 → X112 x100 J99 lw))))
def wl_X3_house_112 (p1 : Int32) (Φ : Int32 → (Nat → Nat → Int32) → Int64 → Prop) (v2 : Int32) (J : Nat → Nat → Int32) (lw : Int64) : Prop := ∀ X112 : Int32 → (Nat → Nat → Int32) → Int64 → Prop, (∀ v2 J lw, wf_X3_house_112 p1 Φ X112 v2 J lw → X112 v2 J lw) → X112 v2 J lw
theorem wk_X3_house_112 {g : Gm} {d : TD} {t : Nat} (B : BdT g d prog_11_method_27_code 4 (some .int) 6 139) (p1 : Int32) (Φ : Int32 → (Nat → Nat → Int32) → Int64 → Prop) (X112 : Int32 → (Nat → Nat → Int32) → Int64 → Prop) (hX112 : ∀ v2 J lw, X112 v2 J lw → GJ g 4 (TP d t J lw (gs g).heap) 0 (TQ g d t (ansI Φ)) 112 [(0, rv (t + 1)), (2, .int v2)] []) (v2 : Int32) (J : Nat → Nat → Int32) (lw : Int64) (hw : wf_X3_house_112 p1 Φ X112 v2 J lw) : GJ g 4 (TP d t J lw (gs g).heap) 0 (TQ g d t (ansI Φ)) 112 [(0, rv (t + 1)), (2, .int v2)] [] := by
  unfold wf_X3_house_112 at hw
  have C := B.1
  have hW := B.2.1
  refine gj_iload_n C dX3_house_112 1 rfl ?_
  refine gj_sipush (v := 144) C dX3_house_113 rfl ?_
  refine gj_icmp_ge (tgt := 132) C dX3_house_116 rfl (fun c27 => ?_) (fun c27 => ?_)
  · have hw := it_t hw c27
    refine gj_aload_n C dX3_house_132 0 rfl ?_
    refine tc_X3_steps B hw (Nat.le_of_ble_eq_true rfl) (Nat.le_of_ble_eq_true rfl) (Nat.le_of_ble_eq_true rfl) dX3_house_133 (fun J28 l29 hw => ?_)
    refine gj_sub (lc' := [(0, rv (t + 1))]) [0] rfl ?_
    exact wq_X3_house_136 B _ _ _ _ hw
  · have hw := it_f hw c27
    refine gj_aload_n C dX3_house_119 0 rfl ?_
    refine tg59 C hW dX3_house_120 ?_
    refine gj_iload_n C dX3_house_123 1 rfl ?_
    refine gj_iconst (v := 0) C dX3_house_124 rfl ?_
    obtain ⟨h98, hw⟩ := hw
    refine gt_iast C hW (by decide) h98 dX3_house_125 ?_
    refine gt_nmJ (fun J99 eJ99 => ?_)
    have hw := hw J99 eJ99
    obtain ⟨x100, ex100⟩ : ∃ x100 : Int32, x100 = v2 + 1 := ⟨_, rfl⟩
    have hw := hw x100 ex100
    refine gj_iinc (lc' := [(2, .int x100), (0, rv (t + 1))]) (w := 1) (v := x100) C dX3_house_126 1 rfl rfl ex100.symm (Nat.le_of_ble_eq_true rfl) rfl ?_
    refine gj_goto (tgt := 112) C dX3_house_129 rfl ?_
    refine gj_sub (lc' := [(0, rv (t + 1)), (2, .int x100)]) [1, 0] rfl ?_
    exact hX112 _ _ _ hw

theorem wq_X3_house_112 {g : Gm} {d : TD} {t : Nat} (B : BdT g d prog_11_method_27_code 4 (some .int) 6 139) (p1 : Int32) (Φ : Int32 → (Nat → Nat → Int32) → Int64 → Prop) (v2 : Int32) (J : Nat → Nat → Int32) (lw : Int64) (hw : wl_X3_house_112 p1 Φ v2 J lw) : GJ g 4 (TP d t J lw (gs g).heap) 0 (TQ g d t (ansI Φ)) 112 [(0, rv (t + 1)), (2, .int v2)] [] :=
  hw (fun v2 J lw => GJ g 4 (TP d t J lw (gs g).heap) 0 (TQ g d t (ansI Φ)) 112 [(0, rv (t + 1)), (2, .int v2)] []) (fun v2 J lw h => wk_X3_house_112 B p1 Φ (fun v2 J lw => GJ g 4 (TP d t J lw (gs g).heap) 0 (TQ g d t (ansI Φ)) 112 [(0, rv (t + 1)), (2, .int v2)] []) (fun v2 J lw h => h) v2 J lw h)
def wp_X3_house (p1 : Int32) (Φ : Int32 → (Nat → Nat → Int32) → Int64 → Prop) (J : Nat → Nat → Int32) (lw : Int64) : Prop :=
(∀ J1 : Nat → Nat → Int32, J1 = u2 J 0 0 0 → (∀ x2 : Int32, x2 = (if p1 < 0 then 0 else (if (J1 0 13) < p1 then 0 else 1)) → (wp_X3_right x2 1 (fun r7 J5 l6 => (if r7 = 0 then Φ 0 J5 l6 else (∀ J9 : Nat → Nat → Int32, J9 = u2 J5 0 13 0 → (∀ J10 : Nat → Nat → Int32, J10 = u2 J9 0 15 (-1) → (∀ J11 : Nat → Nat → Int32, J11 = u2 J10 0 14 0 → (∀ J12 : Nat → Nat → Int32, J12 = u2 J11 0 17 p1 → (∀ J13 : Nat → Nat → Int32, J13 = u2 J12 0 18 0 → (∀ J14 : Nat → Nat → Int32, J14 = u2 J13 0 24 0 → (∀ J15 : Nat → Nat → Int32, J15 = u2 J14 0 25 0 → (∀ J16 : Nat → Nat → Int32, J16 = u2 J15 0 26 0 → (∀ J17 : Nat → Nat → Int32, J17 = u2 J16 0 27 0 → (∀ J18 : Nat → Nat → Int32, J18 = u2 J17 0 28 0 → (vp_in 0 (tln 34) ∧ (∀ J20 : Nat → Nat → Int32, J20 = u2 J18 34 (Int32.toNatClampNeg 0) 3 → (vp_in 1 (tln 34) ∧ (∀ J22 : Nat → Nat → Int32, J22 = u2 J20 34 (Int32.toNatClampNeg 1) 1 → (vp_in 2 (tln 34) ∧ (∀ J24 : Nat → Nat → Int32, J24 = u2 J22 34 (Int32.toNatClampNeg 2) 2 → (vp_in 3 (tln 34) ∧ (∀ J26 : Nat → Nat → Int32, J26 = u2 J24 34 (Int32.toNatClampNeg 3) 1 → wl_X3_house_112 p1 Φ 0 J26 l6)))))))))))))))))))) J1 lw)))
theorem wk_X3_house {g : Gm} {d : TD} {t : Nat} (B : BdT g d prog_11_method_27_code 4 (some .int) 6 139) (p1 : Int32) (Φ : Int32 → (Nat → Nat → Int32) → Int64 → Prop) (J : Nat → Nat → Int32) (lw : Int64) (hw : wp_X3_house p1 Φ J lw) : GJ g 4 (TP d t J lw (gs g).heap) 0 (TQ g d t (ansI Φ)) 0 [(0, rv (t + 1)), (1, .int p1)] [] := by
  unfold wp_X3_house at hw
  have C := B.1
  have hW := B.2.1
  refine gj_aload_n C dX3_house_0 0 rfl ?_
  refine gj_iconst (v := 0) C dX3_house_1 rfl ?_
  refine tp134 C hW dX3_house_2 ?_
  refine gt_nmJ (fun J1 eJ1 => ?_)
  have hw := hw J1 eJ1
  refine gj_aload_n C dX3_house_5 0 rfl ?_
  refine gj_iload_n C dX3_house_6 1 rfl ?_
  have key : ∀ x2 : Int32, x2 = (if p1 < 0 then 0 else (if (J1 0 13) < p1 then 0 else 1)) → GJ g 4 (TP d t J1 lw (gs g).heap) 0 (TQ g d t (ansI Φ)) 23 [(0, rv (t + 1)), (1, .int p1)] [.int x2, rv (t + 1)] → GJ g 4 (TP d t J1 lw (gs g).heap) 0 (TQ g d t (ansI Φ)) 7 [(0, rv (t + 1)), (1, .int p1)] [.int p1, rv (t + 1)] := by
    intro x2 ex2 kk
    refine gj_if_lt (tgt := 22) C dX3_house_7 rfl (fun c3 => ?_) (fun c3 => ?_)
    · refine gj_iconst (v := 0) C dX3_house_22 rfl ?_
      rw [if_pos c3] at ex2
      subst ex2
      exact kk
    · refine gj_iload_n C dX3_house_10 1 rfl ?_
      refine gj_aload_n C dX3_house_11 0 rfl ?_
      refine tg137 C hW dX3_house_12 ?_
      refine gj_icmp_gt (tgt := 22) C dX3_house_15 rfl (fun c4 => ?_) (fun c4 => ?_)
      · refine gj_iconst (v := 0) C dX3_house_22 rfl ?_
        rw [if_neg c3, if_pos c4] at ex2
        subst ex2
        exact kk
      · refine gj_iconst (v := 1) C dX3_house_18 rfl ?_
        refine gj_goto (tgt := 23) C dX3_house_19 rfl ?_
        rw [if_neg c3, if_neg c4] at ex2
        subst ex2
        exact kk
  obtain ⟨x2, ex2⟩ : ∃ x2 : Int32, x2 = (if p1 < 0 then 0 else (if (J1 0 13) < p1 then 0 else 1)) := ⟨_, rfl⟩
  have bx2 : x2 = 0 ∨ x2 = 1 := by rw [ex2]; (repeat' split) <;> simp
  refine key x2 ex2 ?_
  have hw := hw x2 ex2
  clear key
  refine gj_iconst (v := 1) C dX3_house_23 rfl ?_
  refine tc_X3_right B hw (Nat.le_of_ble_eq_true rfl) (Nat.le_of_ble_eq_true rfl) (Nat.le_of_ble_eq_true rfl) dX3_house_24 (fun r7 J5 l6 br7 hw => ?_)
  refine gj_if_ne (tgt := 32) C dX3_house_27 rfl (fun c8 => ?_) (fun c8 => ?_)
  · have hw := it_f hw c8
    refine gj_aload_n C dX3_house_32 0 rfl ?_
    refine gj_iconst (v := 0) C dX3_house_33 rfl ?_
    refine tp137 C hW dX3_house_34 ?_
    refine gt_nmJ (fun J9 eJ9 => ?_)
    have hw := hw J9 eJ9
    refine gj_aload_n C dX3_house_37 0 rfl ?_
    refine gj_iconst (v := (-1)) C dX3_house_38 rfl ?_
    refine tp34 C hW dX3_house_39 ?_
    refine gt_nmJ (fun J10 eJ10 => ?_)
    have hw := hw J10 eJ10
    refine gj_aload_n C dX3_house_42 0 rfl ?_
    refine gj_iconst (v := 0) C dX3_house_43 rfl ?_
    refine tp187 C hW dX3_house_44 ?_
    refine gt_nmJ (fun J11 eJ11 => ?_)
    have hw := hw J11 eJ11
    refine gj_aload_n C dX3_house_47 0 rfl ?_
    refine gj_iload_n C dX3_house_48 1 rfl ?_
    refine tp144 C hW dX3_house_49 ?_
    refine gt_nmJ (fun J12 eJ12 => ?_)
    have hw := hw J12 eJ12
    refine gj_aload_n C dX3_house_52 0 rfl ?_
    refine gj_iconst (v := 0) C dX3_house_53 rfl ?_
    refine tp147 C hW dX3_house_54 ?_
    refine gt_nmJ (fun J13 eJ13 => ?_)
    have hw := hw J13 eJ13
    refine gj_aload_n C dX3_house_57 0 rfl ?_
    refine gj_iconst (v := 0) C dX3_house_58 rfl ?_
    refine tp209 C hW dX3_house_59 ?_
    refine gt_nmJ (fun J14 eJ14 => ?_)
    have hw := hw J14 eJ14
    refine gj_aload_n C dX3_house_62 0 rfl ?_
    refine gj_iconst (v := 0) C dX3_house_63 rfl ?_
    refine tp206 C hW dX3_house_64 ?_
    refine gt_nmJ (fun J15 eJ15 => ?_)
    have hw := hw J15 eJ15
    refine gj_aload_n C dX3_house_67 0 rfl ?_
    refine gj_iconst (v := 0) C dX3_house_68 rfl ?_
    refine tp232 C hW dX3_house_69 ?_
    refine gt_nmJ (fun J16 eJ16 => ?_)
    have hw := hw J16 eJ16
    refine gj_aload_n C dX3_house_72 0 rfl ?_
    refine gj_iconst (v := 0) C dX3_house_73 rfl ?_
    refine tp212 C hW dX3_house_74 ?_
    refine gt_nmJ (fun J17 eJ17 => ?_)
    have hw := hw J17 eJ17
    refine gj_aload_n C dX3_house_77 0 rfl ?_
    refine gj_iconst (v := 0) C dX3_house_78 rfl ?_
    refine tp238 C hW dX3_house_79 ?_
    refine gt_nmJ (fun J18 eJ18 => ?_)
    have hw := hw J18 eJ18
    refine gj_aload_n C dX3_house_82 0 rfl ?_
    refine tg56 C hW dX3_house_83 ?_
    refine gj_iconst (v := 0) C dX3_house_86 rfl ?_
    refine gj_iconst (v := 3) C dX3_house_87 rfl ?_
    obtain ⟨h19, hw⟩ := hw
    refine gt_iast C hW (by decide) h19 dX3_house_88 ?_
    refine gt_nmJ (fun J20 eJ20 => ?_)
    have hw := hw J20 eJ20
    refine gj_aload_n C dX3_house_89 0 rfl ?_
    refine tg56 C hW dX3_house_90 ?_
    refine gj_iconst (v := 1) C dX3_house_93 rfl ?_
    refine gj_iconst (v := 1) C dX3_house_94 rfl ?_
    obtain ⟨h21, hw⟩ := hw
    refine gt_iast C hW (by decide) h21 dX3_house_95 ?_
    refine gt_nmJ (fun J22 eJ22 => ?_)
    have hw := hw J22 eJ22
    refine gj_aload_n C dX3_house_96 0 rfl ?_
    refine tg56 C hW dX3_house_97 ?_
    refine gj_iconst (v := 2) C dX3_house_100 rfl ?_
    refine gj_iconst (v := 2) C dX3_house_101 rfl ?_
    obtain ⟨h23, hw⟩ := hw
    refine gt_iast C hW (by decide) h23 dX3_house_102 ?_
    refine gt_nmJ (fun J24 eJ24 => ?_)
    have hw := hw J24 eJ24
    refine gj_aload_n C dX3_house_103 0 rfl ?_
    refine tg56 C hW dX3_house_104 ?_
    refine gj_iconst (v := 3) C dX3_house_107 rfl ?_
    refine gj_iconst (v := 1) C dX3_house_108 rfl ?_
    obtain ⟨h25, hw⟩ := hw
    refine gt_iast C hW (by decide) h25 dX3_house_109 ?_
    refine gt_nmJ (fun J26 eJ26 => ?_)
    have hw := hw J26 eJ26
    refine gj_iconst (v := 0) C dX3_house_110 rfl ?_
    refine gj_istore_n (lc' := [(2, .int 0), (0, rv (t + 1)), (1, .int p1)]) C dX3_house_111 (Nat.le_of_ble_eq_true rfl) rfl ?_
    refine gj_sub (lc' := [(0, rv (t + 1)), (2, .int 0)]) [1, 0] rfl ?_
    exact wq_X3_house_112 B _ _ _ _ _ hw
  · have hw := it_t hw c8
    refine gj_iconst (v := 0) C dX3_house_30 rfl ?_
    exact gt_iret B hw dX3_house_31

theorem met_X3_house (l : Launch) {d : TD} {t : Nat} {J : Nat → Nat → Int32} {lw : Int64} {p1 : Int32} {Φ : Int32 → (Nat → Nat → Int32) → Int64 → Prop} (hw : wp_X3_house p1 Φ J lw) : MetT l yX3_house prog_11_method_27_code 4 (some .int) 6 139 [.ref t, .int p1] d t J lw (ansI Φ) :=
  mt_of (by decide +kernel) rfl (Nat.le_of_ble_eq_true rfl) (fun g _ B => wk_X3_house B _ _ J lw hw)
/-! fault()I -/
def wp_X3_fault (Φ : Int32 → (Nat → Nat → Int32) → Int64 → Prop) (J : Nat → Nat → Int32) (lw : Int64) : Prop :=
(∀ J1 : Nat → Nat → Int32, J1 = u2 J 0 0 0 → Φ (J1 0 15) J1 lw)
theorem wk_X3_fault {g : Gm} {d : TD} {t : Nat} (B : BdT g d prog_11_method_28_code 1 (some .int) 0 0) (Φ : Int32 → (Nat → Nat → Int32) → Int64 → Prop) (J : Nat → Nat → Int32) (lw : Int64) (hw : wp_X3_fault Φ J lw) : GJ g 1 (TP d t J lw (gs g).heap) 0 (TQ g d t (ansI Φ)) 0 [(0, rv (t + 1))] [] := by
  unfold wp_X3_fault at hw
  have C := B.1
  have hW := B.2.1
  refine gj_aload_n C dX3_fault_0 0 rfl ?_
  refine gj_iconst (v := 0) C dX3_fault_1 rfl ?_
  refine tp134 C hW dX3_fault_2 ?_
  refine gt_nmJ (fun J1 eJ1 => ?_)
  have hw := hw J1 eJ1
  refine gj_aload_n C dX3_fault_5 0 rfl ?_
  refine tg34 C hW dX3_fault_6 ?_
  exact gt_iret B hw dX3_fault_9

theorem met_X3_fault (l : Launch) {d : TD} {t : Nat} {J : Nat → Nat → Int32} {lw : Int64} {Φ : Int32 → (Nat → Nat → Int32) → Int64 → Prop} (hw : wp_X3_fault Φ J lw) : MetT l yX3_fault prog_11_method_28_code 1 (some .int) 0 0 [.ref t] d t J lw (ansI Φ) :=
  mt_of (by decide +kernel) rfl (Nat.le_of_ble_eq_true rfl) (fun g _ B => wk_X3_fault B _ J lw hw)
/-! within(III)Z -/
def wp_X3_within (p0 : Int32) (p1 : Int32) (p2 : Int32) (Φ : Int32 → (Nat → Nat → Int32) → Int64 → Prop) (J : Nat → Nat → Int32) (lw : Int64) : Prop :=
(∀ x1 : Int32, x1 = (if p0 < p1 then 0 else (if p2 < p0 then 0 else 1)) → Φ x1 J lw)
theorem wk_X3_within {g : Gm} {d : TD} {t : Nat} (B : BdT g d prog_11_method_4_code 3 (some .boolean) 0 0) (p0 : Int32) (p1 : Int32) (p2 : Int32) (Φ : Int32 → (Nat → Nat → Int32) → Int64 → Prop) (J : Nat → Nat → Int32) (lw : Int64) (hw : wp_X3_within p0 p1 p2 Φ J lw) : GJ g 3 (TP d t J lw (gs g).heap) 0 (TQ g d t (ansZ Φ)) 0 [(0, .int p0), (1, .int p1), (2, .int p2)] [] := by
  unfold wp_X3_within at hw
  have C := B.1
  have hW := B.2.1
  refine gj_iload_n C dX3_within_0 0 rfl ?_
  refine gj_iload_n C dX3_within_1 1 rfl ?_
  have key : ∀ x1 : Int32, x1 = (if p0 < p1 then 0 else (if p2 < p0 then 0 else 1)) → GJ g 3 (TP d t J lw (gs g).heap) 0 (TQ g d t (ansZ Φ)) 15 [(0, .int p0), (1, .int p1), (2, .int p2)] [.int x1] → GJ g 3 (TP d t J lw (gs g).heap) 0 (TQ g d t (ansZ Φ)) 2 [(0, .int p0), (1, .int p1), (2, .int p2)] [.int p1, .int p0] := by
    intro x1 ex1 kk
    refine gj_icmp_lt (tgt := 14) C dX3_within_2 rfl (fun c2 => ?_) (fun c2 => ?_)
    · refine gj_iconst (v := 0) C dX3_within_14 rfl ?_
      rw [if_pos c2] at ex1
      subst ex1
      exact kk
    · refine gj_iload_n C dX3_within_5 0 rfl ?_
      refine gj_iload_n C dX3_within_6 2 rfl ?_
      refine gj_icmp_gt (tgt := 14) C dX3_within_7 rfl (fun c3 => ?_) (fun c3 => ?_)
      · refine gj_iconst (v := 0) C dX3_within_14 rfl ?_
        rw [if_neg c2, if_pos c3] at ex1
        subst ex1
        exact kk
      · refine gj_iconst (v := 1) C dX3_within_10 rfl ?_
        refine gj_goto (tgt := 15) C dX3_within_11 rfl ?_
        rw [if_neg c2, if_neg c3] at ex1
        subst ex1
        exact kk
  obtain ⟨x1, ex1⟩ : ∃ x1 : Int32, x1 = (if p0 < p1 then 0 else (if p2 < p0 then 0 else 1)) := ⟨_, rfl⟩
  have bx1 : x1 = 0 ∨ x1 = 1 := by rw [ex1]; (repeat' split) <;> simp
  refine key x1 ex1 ?_
  have hw := hw x1 ex1
  clear key
  exact gt_zret B (bx1) hw dX3_within_15

theorem met_X3_within (l : Launch) {d : TD} {t : Nat} {J : Nat → Nat → Int32} {lw : Int64} {p0 : Int32} {p1 : Int32} {p2 : Int32} {Φ : Int32 → (Nat → Nat → Int32) → Int64 → Prop} (hw : wp_X3_within p0 p1 p2 Φ J lw) : MetT l yX3_within prog_11_method_4_code 3 (some .boolean) 0 0 [.int p0, .int p1, .int p2] d t J lw (ansZ Φ) :=
  mt_of (by decide +kernel) rfl (Nat.le_of_ble_eq_true rfl) (fun g _ B => wk_X3_within B _ _ _ _ J lw hw)
theorem tc_X3_within {g : Gm} {d : TD} {t : Nat} {cc : ByteArray} {nL : Nat} {ret : Option FieldType} {fr lo : Nat} (B : BdT g d cc nL ret fr lo) {J : Nat → Nat → Int32} {lw : Int64} {H0 : Heap} {Q : State → Prop} {pc : Nat} {lc : List (Nat × Value)} {rest : List Value} {p0 : Int32} {p1 : Int32} {p2 : Int32} {Φ : Int32 → (Nat → Nat → Int32) → Int64 → Prop} (hw : wp_X3_within p0 p1 p2 Φ J lw) (hf : 1 ≤ fr) (hlo : 22 ≤ lo) (hrest : (rest.map fun v => v.category).sum ≤ 8) (dg : decode cc pc = .ok (.invokestatic 283, 3)) (k : ∀ (r : Int32) J' lw', (r = 0 ∨ r = 1) → Φ r J' lw' → GJ g nL (TP d t J' lw' H0) 0 Q (pc + 3) lc (.int r :: rest)) : GJ g nL (TP d t J lw H0) 0 Q pc lc (.int p2 :: .int p1 :: .int p0 :: rest) :=
  gt_callS (n := 3) (As := [.int p0, .int p1, .int p2]) B (met_X3_within g.2.1 hw) (lw_S q1505 q1506 q97 q1507) ⟨by decide +kernel, by decide +kernel, by decide +kernel⟩ rfl hf hlo ⟨Nat.zero_le _, Nat.zero_le _⟩ rfl hrest dg (fun v J' lw' hp => by obtain ⟨r, rfl, hb, hp⟩ := hp; exact k r J' lw' hb hp)
/-! count(I)I -/
def wj_X3_count_32 (p1 : Int32) (Φ : Int32 → (Nat → Nat → Int32) → Int64 → Prop) (s0 : Int32) (J : Nat → Nat → Int32) (lw : Int64) : Prop :=
(wp_X3_right s0 1 (fun r8 J6 l7 => (if r8 = 0 then Φ 0 J6 l7 else (if p1 = 0 then Φ (J6 0 1) J6 l7 else (if p1 = 1 then Φ (J6 0 2) J6 l7 else (if p1 = 2 then Φ (J6 0 3) J6 l7 else (if p1 = 3 then Φ (J6 0 4) J6 l7 else (if p1 = 4 then Φ (J6 0 36) J6 l7 else (if p1 = 5 then Φ (J6 0 40) J6 l7 else (if p1 = 6 then Φ (J6 0 41) J6 l7 else (if p1 = 7 then Φ (J6 0 13) J6 l7 else (if 20 ≤ p1 then (vp_in (p1 - 20) (tln 10) ∧ Φ (J6 10 (Int32.toNatClampNeg (p1 - 20))) J6 l7) else (vp_in (p1 - 8) (tln 16) ∧ Φ (J6 16 (Int32.toNatClampNeg (p1 - 8))) J6 l7)))))))))))) J lw)
theorem wq_X3_count_32 {g : Gm} {d : TD} {t : Nat} (B : BdT g d prog_11_method_30_code 2 (some .int) 1 22) (p1 : Int32) (Φ : Int32 → (Nat → Nat → Int32) → Int64 → Prop) (s0 : Int32) (J : Nat → Nat → Int32) (lw : Int64) (hw : wj_X3_count_32 p1 Φ s0 J lw) : GJ g 2 (TP d t J lw (gs g).heap) 0 (TQ g d t (ansI Φ)) 32 [(0, rv (t + 1)), (1, .int p1)] [.int s0, rv (t + 1)] := by
  unfold wj_X3_count_32 at hw
  have C := B.1
  have hW := B.2.1
  refine gj_iconst (v := 1) C dX3_count_32 rfl ?_
  refine tc_X3_right B hw (Nat.le_of_ble_eq_true rfl) (Nat.le_of_ble_eq_true rfl) (Nat.le_of_ble_eq_true rfl) dX3_count_33 (fun r8 J6 l7 br8 hw => ?_)
  refine gj_if_ne (tgt := 41) C dX3_count_36 rfl (fun c9 => ?_) (fun c9 => ?_)
  · have hw := it_f hw c9
    refine gj_iload_n C dX3_count_41 1 rfl ?_
    by_cases c10 : p1 = 0
    · have hw := it_t hw c10
      refine gj_tabIn (v := 0) (tgt := 88) C dX3_count_42 c10 (by decide) (by decide) (by rfl) rfl ?_
      refine gj_aload_n C dX3_count_88 0 rfl ?_
      refine tg248 C hW dX3_count_89 ?_
      exact gt_iret B hw dX3_count_92
    have hw := it_f hw c10
    by_cases c11 : p1 = 1
    · have hw := it_t hw c11
      refine gj_tabIn (v := 1) (tgt := 93) C dX3_count_42 c11 (by decide) (by decide) (by rfl) rfl ?_
      refine gj_aload_n C dX3_count_93 0 rfl ?_
      refine tg251 C hW dX3_count_94 ?_
      exact gt_iret B hw dX3_count_97
    have hw := it_f hw c11
    by_cases c12 : p1 = 2
    · have hw := it_t hw c12
      refine gj_tabIn (v := 2) (tgt := 98) C dX3_count_42 c12 (by decide) (by decide) (by rfl) rfl ?_
      refine gj_aload_n C dX3_count_98 0 rfl ?_
      refine tg254 C hW dX3_count_99 ?_
      exact gt_iret B hw dX3_count_102
    have hw := it_f hw c12
    by_cases c13 : p1 = 3
    · have hw := it_t hw c13
      refine gj_tabIn (v := 3) (tgt := 103) C dX3_count_42 c13 (by decide) (by decide) (by rfl) rfl ?_
      refine gj_aload_n C dX3_count_103 0 rfl ?_
      refine tg257 C hW dX3_count_104 ?_
      exact gt_iret B hw dX3_count_107
    have hw := it_f hw c13
    by_cases c14 : p1 = 4
    · have hw := it_t hw c14
      refine gj_tabIn (v := 4) (tgt := 108) C dX3_count_42 c14 (by decide) (by decide) (by rfl) rfl ?_
      refine gj_aload_n C dX3_count_108 0 rfl ?_
      refine tg264 C hW dX3_count_109 ?_
      exact gt_iret B hw dX3_count_112
    have hw := it_f hw c14
    by_cases c15 : p1 = 5
    · have hw := it_t hw c15
      refine gj_tabIn (v := 5) (tgt := 113) C dX3_count_42 c15 (by decide) (by decide) (by rfl) rfl ?_
      refine gj_aload_n C dX3_count_113 0 rfl ?_
      refine tg71 C hW dX3_count_114 ?_
      exact gt_iret B hw dX3_count_117
    have hw := it_f hw c15
    by_cases c16 : p1 = 6
    · have hw := it_t hw c16
      refine gj_tabIn (v := 6) (tgt := 118) C dX3_count_42 c16 (by decide) (by decide) (by rfl) rfl ?_
      refine gj_aload_n C dX3_count_118 0 rfl ?_
      refine tg267 C hW dX3_count_119 ?_
      exact gt_iret B hw dX3_count_122
    have hw := it_f hw c16
    by_cases c17 : p1 = 7
    · have hw := it_t hw c17
      refine gj_tabIn (v := 7) (tgt := 123) C dX3_count_42 c17 (by decide) (by decide) (by rfl) rfl ?_
      refine gj_aload_n C dX3_count_123 0 rfl ?_
      refine tg137 C hW dX3_count_124 ?_
      exact gt_iret B hw dX3_count_127
    have hw := it_f hw c17
    refine gj_tabOut (tgt := 128) C dX3_count_42 (by have := lv_neT (a := 0) c10 rfl; have := lv_neT (a := 1) c11 rfl; have := lv_neT (a := 2) c12 rfl; have := lv_neT (a := 3) c13 rfl; have := lv_neT (a := 4) c14 rfl; have := lv_neT (a := 5) c15 rfl; have := lv_neT (a := 6) c16 rfl; have := lv_neT (a := 7) c17 rfl; omega) rfl ?_
    refine gj_iload_n C dX3_count_128 1 rfl ?_
    refine gj_bipush (v := 20) C dX3_count_129 rfl ?_
    refine gj_icmp_ge (tgt := 146) C dX3_count_131 rfl (fun c18 => ?_) (fun c18 => ?_)
    · have hw := it_t hw c18
      refine gj_aload_n C dX3_count_146 0 rfl ?_
      refine tg25 C hW dX3_count_147 ?_
      refine gj_iload_n C dX3_count_150 1 rfl ?_
      refine gj_bipush (v := 20) C dX3_count_151 rfl ?_
      refine gj_isub C dX3_count_153 ?_
      obtain ⟨h19, hw⟩ := hw
      refine gt_iald C hW (by decide) h19 dX3_count_154 ?_
      exact gt_iret B hw dX3_count_155
    · have hw := it_f hw c18
      refine gj_aload_n C dX3_count_134 0 rfl ?_
      refine tg38 C hW dX3_count_135 ?_
      refine gj_iload_n C dX3_count_138 1 rfl ?_
      refine gj_bipush (v := 8) C dX3_count_139 rfl ?_
      refine gj_isub C dX3_count_141 ?_
      obtain ⟨h20, hw⟩ := hw
      refine gt_iald C hW (by decide) h20 dX3_count_142 ?_
      refine gj_goto (tgt := 155) C dX3_count_143 rfl ?_
      exact gt_iret B hw dX3_count_155
  · have hw := it_t hw c9
    refine gj_iconst (v := 0) C dX3_count_39 rfl ?_
    exact gt_iret B hw dX3_count_40

def wp_X3_count (p1 : Int32) (Φ : Int32 → (Nat → Nat → Int32) → Int64 → Prop) (J : Nat → Nat → Int32) (lw : Int64) : Prop :=
(∀ J1 : Nat → Nat → Int32, J1 = u2 J 0 0 0 → (wp_X3_within p1 0 10 (fun r4 J2 l3 => (if r4 = 0 then (wp_X3_within p1 20 23 (fun r23 J21 l22 => (∀ x24 : Int32, x24 = (if r23 = 0 then 0 else 1) → (wp_X3_right x24 1 (fun r28 J26 l27 => (if r28 = 0 then Φ 0 J26 l27 else (if p1 = 0 then Φ (J26 0 1) J26 l27 else (if p1 = 1 then Φ (J26 0 2) J26 l27 else (if p1 = 2 then Φ (J26 0 3) J26 l27 else (if p1 = 3 then Φ (J26 0 4) J26 l27 else (if p1 = 4 then Φ (J26 0 36) J26 l27 else (if p1 = 5 then Φ (J26 0 40) J26 l27 else (if p1 = 6 then Φ (J26 0 41) J26 l27 else (if p1 = 7 then Φ (J26 0 13) J26 l27 else (if 20 ≤ p1 then (vp_in (p1 - 20) (tln 10) ∧ Φ (J26 10 (Int32.toNatClampNeg (p1 - 20))) J26 l27) else (vp_in (p1 - 8) (tln 16) ∧ Φ (J26 16 (Int32.toNatClampNeg (p1 - 8))) J26 l27)))))))))))) J21 l22))) J2 l3) else wj_X3_count_32 p1 Φ 1 J2 l3)) J1 lw))
theorem wk_X3_count {g : Gm} {d : TD} {t : Nat} (B : BdT g d prog_11_method_30_code 2 (some .int) 1 22) (p1 : Int32) (Φ : Int32 → (Nat → Nat → Int32) → Int64 → Prop) (J : Nat → Nat → Int32) (lw : Int64) (hw : wp_X3_count p1 Φ J lw) : GJ g 2 (TP d t J lw (gs g).heap) 0 (TQ g d t (ansI Φ)) 0 [(0, rv (t + 1)), (1, .int p1)] [] := by
  unfold wp_X3_count at hw
  have C := B.1
  have hW := B.2.1
  refine gj_aload_n C dX3_count_0 0 rfl ?_
  refine gj_iconst (v := 0) C dX3_count_1 rfl ?_
  refine tp134 C hW dX3_count_2 ?_
  refine gt_nmJ (fun J1 eJ1 => ?_)
  have hw := hw J1 eJ1
  refine gj_aload_n C dX3_count_5 0 rfl ?_
  refine gj_iload_n C dX3_count_6 1 rfl ?_
  refine gj_iconst (v := 0) C dX3_count_7 rfl ?_
  refine gj_bipush (v := 10) C dX3_count_8 rfl ?_
  refine tc_X3_within B hw (Nat.le_of_ble_eq_true rfl) (Nat.le_of_ble_eq_true rfl) (Nat.le_of_ble_eq_true rfl) dX3_count_10 (fun r4 J2 l3 br4 hw => ?_)
  refine gj_if_ne (tgt := 27) C dX3_count_13 rfl (fun c5 => ?_) (fun c5 => ?_)
  · have hw := it_f hw c5
    refine gj_iconst (v := 1) C dX3_count_27 rfl ?_
    refine gj_goto (tgt := 32) C dX3_count_28 rfl ?_
    exact wq_X3_count_32 B _ _ _ _ _ hw
  · have hw := it_t hw c5
    refine gj_iload_n C dX3_count_16 1 rfl ?_
    refine gj_bipush (v := 20) C dX3_count_17 rfl ?_
    refine gj_bipush (v := 23) C dX3_count_19 rfl ?_
    refine tc_X3_within B hw (Nat.le_of_ble_eq_true rfl) (Nat.le_of_ble_eq_true rfl) (Nat.le_of_ble_eq_true rfl) dX3_count_21 (fun r23 J21 l22 br23 hw => ?_)
    have key : ∀ x24 : Int32, x24 = (if r23 = 0 then 0 else 1) → GJ g 2 (TP d t J21 l22 (gs g).heap) 0 (TQ g d t (ansI Φ)) 32 [(0, rv (t + 1)), (1, .int p1)] [.int x24, rv (t + 1)] → GJ g 2 (TP d t J21 l22 (gs g).heap) 0 (TQ g d t (ansI Φ)) 24 [(0, rv (t + 1)), (1, .int p1)] [.int r23, rv (t + 1)] := by
      intro x24 ex24 kk
      refine gj_if_eq (tgt := 31) C dX3_count_24 rfl (fun c25 => ?_) (fun c25 => ?_)
      · refine gj_iconst (v := 0) C dX3_count_31 rfl ?_
        rw [if_pos c25] at ex24
        subst ex24
        exact kk
      · refine gj_iconst (v := 1) C dX3_count_27 rfl ?_
        refine gj_goto (tgt := 32) C dX3_count_28 rfl ?_
        rw [if_neg c25] at ex24
        subst ex24
        exact kk
    obtain ⟨x24, ex24⟩ : ∃ x24 : Int32, x24 = (if r23 = 0 then 0 else 1) := ⟨_, rfl⟩
    have bx24 : x24 = 0 ∨ x24 = 1 := by rw [ex24]; (repeat' split) <;> simp
    refine key x24 ex24 ?_
    have hw := hw x24 ex24
    clear key
    refine gj_iconst (v := 1) C dX3_count_32 rfl ?_
    refine tc_X3_right B hw (Nat.le_of_ble_eq_true rfl) (Nat.le_of_ble_eq_true rfl) (Nat.le_of_ble_eq_true rfl) dX3_count_33 (fun r28 J26 l27 br28 hw => ?_)
    refine gj_if_ne (tgt := 41) C dX3_count_36 rfl (fun c29 => ?_) (fun c29 => ?_)
    · have hw := it_f hw c29
      refine gj_iload_n C dX3_count_41 1 rfl ?_
      by_cases c30 : p1 = 0
      · have hw := it_t hw c30
        refine gj_tabIn (v := 0) (tgt := 88) C dX3_count_42 c30 (by decide) (by decide) (by rfl) rfl ?_
        refine gj_aload_n C dX3_count_88 0 rfl ?_
        refine tg248 C hW dX3_count_89 ?_
        exact gt_iret B hw dX3_count_92
      have hw := it_f hw c30
      by_cases c31 : p1 = 1
      · have hw := it_t hw c31
        refine gj_tabIn (v := 1) (tgt := 93) C dX3_count_42 c31 (by decide) (by decide) (by rfl) rfl ?_
        refine gj_aload_n C dX3_count_93 0 rfl ?_
        refine tg251 C hW dX3_count_94 ?_
        exact gt_iret B hw dX3_count_97
      have hw := it_f hw c31
      by_cases c32 : p1 = 2
      · have hw := it_t hw c32
        refine gj_tabIn (v := 2) (tgt := 98) C dX3_count_42 c32 (by decide) (by decide) (by rfl) rfl ?_
        refine gj_aload_n C dX3_count_98 0 rfl ?_
        refine tg254 C hW dX3_count_99 ?_
        exact gt_iret B hw dX3_count_102
      have hw := it_f hw c32
      by_cases c33 : p1 = 3
      · have hw := it_t hw c33
        refine gj_tabIn (v := 3) (tgt := 103) C dX3_count_42 c33 (by decide) (by decide) (by rfl) rfl ?_
        refine gj_aload_n C dX3_count_103 0 rfl ?_
        refine tg257 C hW dX3_count_104 ?_
        exact gt_iret B hw dX3_count_107
      have hw := it_f hw c33
      by_cases c34 : p1 = 4
      · have hw := it_t hw c34
        refine gj_tabIn (v := 4) (tgt := 108) C dX3_count_42 c34 (by decide) (by decide) (by rfl) rfl ?_
        refine gj_aload_n C dX3_count_108 0 rfl ?_
        refine tg264 C hW dX3_count_109 ?_
        exact gt_iret B hw dX3_count_112
      have hw := it_f hw c34
      by_cases c35 : p1 = 5
      · have hw := it_t hw c35
        refine gj_tabIn (v := 5) (tgt := 113) C dX3_count_42 c35 (by decide) (by decide) (by rfl) rfl ?_
        refine gj_aload_n C dX3_count_113 0 rfl ?_
        refine tg71 C hW dX3_count_114 ?_
        exact gt_iret B hw dX3_count_117
      have hw := it_f hw c35
      by_cases c36 : p1 = 6
      · have hw := it_t hw c36
        refine gj_tabIn (v := 6) (tgt := 118) C dX3_count_42 c36 (by decide) (by decide) (by rfl) rfl ?_
        refine gj_aload_n C dX3_count_118 0 rfl ?_
        refine tg267 C hW dX3_count_119 ?_
        exact gt_iret B hw dX3_count_122
      have hw := it_f hw c36
      by_cases c37 : p1 = 7
      · have hw := it_t hw c37
        refine gj_tabIn (v := 7) (tgt := 123) C dX3_count_42 c37 (by decide) (by decide) (by rfl) rfl ?_
        refine gj_aload_n C dX3_count_123 0 rfl ?_
        refine tg137 C hW dX3_count_124 ?_
        exact gt_iret B hw dX3_count_127
      have hw := it_f hw c37
      refine gj_tabOut (tgt := 128) C dX3_count_42 (by have := lv_neT (a := 0) c30 rfl; have := lv_neT (a := 1) c31 rfl; have := lv_neT (a := 2) c32 rfl; have := lv_neT (a := 3) c33 rfl; have := lv_neT (a := 4) c34 rfl; have := lv_neT (a := 5) c35 rfl; have := lv_neT (a := 6) c36 rfl; have := lv_neT (a := 7) c37 rfl; omega) rfl ?_
      refine gj_iload_n C dX3_count_128 1 rfl ?_
      refine gj_bipush (v := 20) C dX3_count_129 rfl ?_
      refine gj_icmp_ge (tgt := 146) C dX3_count_131 rfl (fun c38 => ?_) (fun c38 => ?_)
      · have hw := it_t hw c38
        refine gj_aload_n C dX3_count_146 0 rfl ?_
        refine tg25 C hW dX3_count_147 ?_
        refine gj_iload_n C dX3_count_150 1 rfl ?_
        refine gj_bipush (v := 20) C dX3_count_151 rfl ?_
        refine gj_isub C dX3_count_153 ?_
        obtain ⟨h39, hw⟩ := hw
        refine gt_iald C hW (by decide) h39 dX3_count_154 ?_
        exact gt_iret B hw dX3_count_155
      · have hw := it_f hw c38
        refine gj_aload_n C dX3_count_134 0 rfl ?_
        refine tg38 C hW dX3_count_135 ?_
        refine gj_iload_n C dX3_count_138 1 rfl ?_
        refine gj_bipush (v := 8) C dX3_count_139 rfl ?_
        refine gj_isub C dX3_count_141 ?_
        obtain ⟨h40, hw⟩ := hw
        refine gt_iald C hW (by decide) h40 dX3_count_142 ?_
        refine gj_goto (tgt := 155) C dX3_count_143 rfl ?_
        exact gt_iret B hw dX3_count_155
    · have hw := it_t hw c29
      refine gj_iconst (v := 0) C dX3_count_39 rfl ?_
      exact gt_iret B hw dX3_count_40

theorem met_X3_count (l : Launch) {d : TD} {t : Nat} {J : Nat → Nat → Int32} {lw : Int64} {p1 : Int32} {Φ : Int32 → (Nat → Nat → Int32) → Int64 → Prop} (hw : wp_X3_count p1 Φ J lw) : MetT l yX3_count prog_11_method_30_code 2 (some .int) 1 22 [.ref t, .int p1] d t J lw (ansI Φ) :=
  mt_of (by decide +kernel) rfl (Nat.le_of_ble_eq_true rfl) (fun g _ B => wk_X3_count B _ _ J lw hw)
/-! isRoom(I)Z -/
def wp_X3_isRoom (p1 : Int32) (Φ : Int32 → (Nat → Nat → Int32) → Int64 → Prop) (J : Nat → Nat → Int32) (lw : Int64) : Prop :=
(∀ x1 : Int32, x1 = (if p1 < 0 then 0 else (if (J 0 1) ≤ p1 then 0 else 1)) → (wp_X3_right x1 1 (fun r6 J4 l5 => Φ r6 J4 l5) J lw))
theorem wk_X3_isRoom {g : Gm} {d : TD} {t : Nat} (B : BdT g d prog_11_method_31_code 2 (some .boolean) 1 22) (p1 : Int32) (Φ : Int32 → (Nat → Nat → Int32) → Int64 → Prop) (J : Nat → Nat → Int32) (lw : Int64) (hw : wp_X3_isRoom p1 Φ J lw) : GJ g 2 (TP d t J lw (gs g).heap) 0 (TQ g d t (ansZ Φ)) 0 [(0, rv (t + 1)), (1, .int p1)] [] := by
  unfold wp_X3_isRoom at hw
  have C := B.1
  have hW := B.2.1
  refine gj_aload_n C dX3_isRoom_0 0 rfl ?_
  refine gj_iload_n C dX3_isRoom_1 1 rfl ?_
  have key : ∀ x1 : Int32, x1 = (if p1 < 0 then 0 else (if (J 0 1) ≤ p1 then 0 else 1)) → GJ g 2 (TP d t J lw (gs g).heap) 0 (TQ g d t (ansZ Φ)) 18 [(0, rv (t + 1)), (1, .int p1)] [.int x1, rv (t + 1)] → GJ g 2 (TP d t J lw (gs g).heap) 0 (TQ g d t (ansZ Φ)) 2 [(0, rv (t + 1)), (1, .int p1)] [.int p1, rv (t + 1)] := by
    intro x1 ex1 kk
    refine gj_if_lt (tgt := 17) C dX3_isRoom_2 rfl (fun c2 => ?_) (fun c2 => ?_)
    · refine gj_iconst (v := 0) C dX3_isRoom_17 rfl ?_
      rw [if_pos c2] at ex1
      subst ex1
      exact kk
    · refine gj_iload_n C dX3_isRoom_5 1 rfl ?_
      refine gj_aload_n C dX3_isRoom_6 0 rfl ?_
      refine tg248 C hW dX3_isRoom_7 ?_
      refine gj_icmp_ge (tgt := 17) C dX3_isRoom_10 rfl (fun c3 => ?_) (fun c3 => ?_)
      · refine gj_iconst (v := 0) C dX3_isRoom_17 rfl ?_
        rw [if_neg c2, if_pos c3] at ex1
        subst ex1
        exact kk
      · refine gj_iconst (v := 1) C dX3_isRoom_13 rfl ?_
        refine gj_goto (tgt := 18) C dX3_isRoom_14 rfl ?_
        rw [if_neg c2, if_neg c3] at ex1
        subst ex1
        exact kk
  obtain ⟨x1, ex1⟩ : ∃ x1 : Int32, x1 = (if p1 < 0 then 0 else (if (J 0 1) ≤ p1 then 0 else 1)) := ⟨_, rfl⟩
  have bx1 : x1 = 0 ∨ x1 = 1 := by rw [ex1]; (repeat' split) <;> simp
  refine key x1 ex1 ?_
  have hw := hw x1 ex1
  clear key
  refine gj_iconst (v := 1) C dX3_isRoom_18 rfl ?_
  refine tc_X3_right B hw (Nat.le_of_ble_eq_true rfl) (Nat.le_of_ble_eq_true rfl) (Nat.le_of_ble_eq_true rfl) dX3_isRoom_19 (fun r6 J4 l5 br6 hw => ?_)
  exact gt_zret B (br6) hw dX3_isRoom_22

theorem met_X3_isRoom (l : Launch) {d : TD} {t : Nat} {J : Nat → Nat → Int32} {lw : Int64} {p1 : Int32} {Φ : Int32 → (Nat → Nat → Int32) → Int64 → Prop} (hw : wp_X3_isRoom p1 Φ J lw) : MetT l yX3_isRoom prog_11_method_31_code 2 (some .boolean) 1 22 [.ref t, .int p1] d t J lw (ansZ Φ) :=
  mt_of (by decide +kernel) rfl (Nat.le_of_ble_eq_true rfl) (fun g _ B => wk_X3_isRoom B _ _ J lw hw)
theorem tc_X3_isRoom {g : Gm} {d : TD} {t : Nat} {cc : ByteArray} {nL : Nat} {ret : Option FieldType} {fr lo : Nat} (B : BdT g d cc nL ret fr lo) {J : Nat → Nat → Int32} {lw : Int64} {H0 : Heap} {Q : State → Prop} {pc : Nat} {lc : List (Nat × Value)} {rest : List Value} {p1 : Int32} {Φ : Int32 → (Nat → Nat → Int32) → Int64 → Prop} (hw : wp_X3_isRoom p1 Φ J lw) (hf : 2 ≤ fr) (hlo : 43 ≤ lo) (hrest : (rest.map fun v => v.category).sum ≤ 8) (dg : decode cc pc = .ok (.invokevirtual 287, 3)) (k : ∀ (r : Int32) J' lw', (r = 0 ∨ r = 1) → Φ r J' lw' → GJ g nL (TP d t J' lw' H0) 0 Q (pc + 3) lc (.int r :: rest)) : GJ g nL (TP d t J lw H0) 0 Q pc lc (.int p1 :: rv (t + 1) :: rest) :=
  gt_callV (n := 1) (As := [.int p1]) B (met_X3_isRoom g.2.1 hw) (lw_V q1512 q1514 qs56 q97 q1515) ⟨rfl, by decide +kernel, by decide +kernel, by decide +kernel⟩ rfl hf hlo ⟨Nat.zero_le _, Nat.zero_le _⟩ rfl hrest dg (fun v J' lw' hp => by obtain ⟨r, rfl, hb, hp⟩ := hp; exact k r J' lw' hb hp)
/-! isTwo(I)Z -/
def wp_X3_isTwo (p1 : Int32) (Φ : Int32 → (Nat → Nat → Int32) → Int64 → Prop) (J : Nat → Nat → Int32) (lw : Int64) : Prop :=
(∀ x1 : Int32, x1 = (if p1 = 0 then 1 else (if p1 = 1 then 1 else 0)) → (wp_X3_right x1 1 (fun r6 J4 l5 => Φ r6 J4 l5) J lw))
theorem wk_X3_isTwo {g : Gm} {d : TD} {t : Nat} (B : BdT g d prog_11_method_35_code 2 (some .boolean) 1 22) (p1 : Int32) (Φ : Int32 → (Nat → Nat → Int32) → Int64 → Prop) (J : Nat → Nat → Int32) (lw : Int64) (hw : wp_X3_isTwo p1 Φ J lw) : GJ g 2 (TP d t J lw (gs g).heap) 0 (TQ g d t (ansZ Φ)) 0 [(0, rv (t + 1)), (1, .int p1)] [] := by
  unfold wp_X3_isTwo at hw
  have C := B.1
  have hW := B.2.1
  refine gj_aload_n C dX3_isTwo_0 0 rfl ?_
  refine gj_iload_n C dX3_isTwo_1 1 rfl ?_
  have key : ∀ x1 : Int32, x1 = (if p1 = 0 then 1 else (if p1 = 1 then 1 else 0)) → GJ g 2 (TP d t J lw (gs g).heap) 0 (TQ g d t (ansZ Φ)) 15 [(0, rv (t + 1)), (1, .int p1)] [.int x1, rv (t + 1)] → GJ g 2 (TP d t J lw (gs g).heap) 0 (TQ g d t (ansZ Φ)) 2 [(0, rv (t + 1)), (1, .int p1)] [.int p1, rv (t + 1)] := by
    intro x1 ex1 kk
    refine gj_if_eq (tgt := 10) C dX3_isTwo_2 rfl (fun c2 => ?_) (fun c2 => ?_)
    · refine gj_iconst (v := 1) C dX3_isTwo_10 rfl ?_
      refine gj_goto (tgt := 15) C dX3_isTwo_11 rfl ?_
      rw [if_pos c2] at ex1
      subst ex1
      exact kk
    · refine gj_iload_n C dX3_isTwo_5 1 rfl ?_
      refine gj_iconst (v := 1) C dX3_isTwo_6 rfl ?_
      refine gj_icmp_ne (tgt := 14) C dX3_isTwo_7 rfl (fun c3 => ?_) (fun c3 => ?_)
      · refine gj_iconst (v := 0) C dX3_isTwo_14 rfl ?_
        rw [if_neg c2, if_neg c3] at ex1
        subst ex1
        exact kk
      · refine gj_iconst (v := 1) C dX3_isTwo_10 rfl ?_
        refine gj_goto (tgt := 15) C dX3_isTwo_11 rfl ?_
        rw [if_neg c2, if_pos c3] at ex1
        subst ex1
        exact kk
  obtain ⟨x1, ex1⟩ : ∃ x1 : Int32, x1 = (if p1 = 0 then 1 else (if p1 = 1 then 1 else 0)) := ⟨_, rfl⟩
  have bx1 : x1 = 0 ∨ x1 = 1 := by rw [ex1]; (repeat' split) <;> simp
  refine key x1 ex1 ?_
  have hw := hw x1 ex1
  clear key
  refine gj_iconst (v := 1) C dX3_isTwo_15 rfl ?_
  refine tc_X3_right B hw (Nat.le_of_ble_eq_true rfl) (Nat.le_of_ble_eq_true rfl) (Nat.le_of_ble_eq_true rfl) dX3_isTwo_16 (fun r6 J4 l5 br6 hw => ?_)
  exact gt_zret B (br6) hw dX3_isTwo_19

theorem met_X3_isTwo (l : Launch) {d : TD} {t : Nat} {J : Nat → Nat → Int32} {lw : Int64} {p1 : Int32} {Φ : Int32 → (Nat → Nat → Int32) → Int64 → Prop} (hw : wp_X3_isTwo p1 Φ J lw) : MetT l yX3_isTwo prog_11_method_35_code 2 (some .boolean) 1 22 [.ref t, .int p1] d t J lw (ansZ Φ) :=
  mt_of (by decide +kernel) rfl (Nat.le_of_ble_eq_true rfl) (fun g _ B => wk_X3_isTwo B _ _ J lw hw)
theorem tc_X3_isTwo {g : Gm} {d : TD} {t : Nat} {cc : ByteArray} {nL : Nat} {ret : Option FieldType} {fr lo : Nat} (B : BdT g d cc nL ret fr lo) {J : Nat → Nat → Int32} {lw : Int64} {H0 : Heap} {Q : State → Prop} {pc : Nat} {lc : List (Nat × Value)} {rest : List Value} {p1 : Int32} {Φ : Int32 → (Nat → Nat → Int32) → Int64 → Prop} (hw : wp_X3_isTwo p1 Φ J lw) (hf : 2 ≤ fr) (hlo : 43 ≤ lo) (hrest : (rest.map fun v => v.category).sum ≤ 8) (dg : decode cc pc = .ok (.invokevirtual 290, 3)) (k : ∀ (r : Int32) J' lw', (r = 0 ∨ r = 1) → Φ r J' lw' → GJ g nL (TP d t J' lw' H0) 0 Q (pc + 3) lc (.int r :: rest)) : GJ g nL (TP d t J lw H0) 0 Q pc lc (.int p1 :: rv (t + 1) :: rest) :=
  gt_callV (n := 1) (As := [.int p1]) B (met_X3_isTwo g.2.1 hw) (lw_V q1516 q1518 qs57 q97 q1519) ⟨rfl, by decide +kernel, by decide +kernel, by decide +kernel⟩ rfl hf hlo ⟨Nat.zero_le _, Nat.zero_le _⟩ rfl hrest dg (fun v J' lw' hp => by obtain ⟨r, rfl, hb, hp⟩ := hp; exact k r J' lw' hb hp)
/-! room(II)I -/
def wp_X3_room (p1 : Int32) (p2 : Int32) (Φ : Int32 → (Nat → Nat → Int32) → Int64 → Prop) (J : Nat → Nat → Int32) (lw : Int64) : Prop :=
(∀ J1 : Nat → Nat → Int32, J1 = u2 J 0 0 0 → (wp_X3_isRoom p1 (fun r4 J2 l3 => (if r4 = 0 then Φ 0 J2 l3 else (wp_X3_isTwo p2 (fun r8 J6 l7 => (if r8 = 0 then Φ 0 J6 l7 else (if p2 = 0 then (vp_in p1 (tln 5) ∧ Φ (J6 5 (Int32.toNatClampNeg p1)) J6 l7) else (vp_in p1 (tln 6) ∧ Φ (J6 6 (Int32.toNatClampNeg p1)) J6 l7)))) J2 l3))) J1 lw))
theorem wk_X3_room {g : Gm} {d : TD} {t : Nat} (B : BdT g d prog_11_method_36_code 3 (some .int) 2 43) (p1 : Int32) (p2 : Int32) (Φ : Int32 → (Nat → Nat → Int32) → Int64 → Prop) (J : Nat → Nat → Int32) (lw : Int64) (hw : wp_X3_room p1 p2 Φ J lw) : GJ g 3 (TP d t J lw (gs g).heap) 0 (TQ g d t (ansI Φ)) 0 [(0, rv (t + 1)), (1, .int p1), (2, .int p2)] [] := by
  unfold wp_X3_room at hw
  have C := B.1
  have hW := B.2.1
  refine gj_aload_n C dX3_room_0 0 rfl ?_
  refine gj_iconst (v := 0) C dX3_room_1 rfl ?_
  refine tp134 C hW dX3_room_2 ?_
  refine gt_nmJ (fun J1 eJ1 => ?_)
  have hw := hw J1 eJ1
  refine gj_aload_n C dX3_room_5 0 rfl ?_
  refine gj_iload_n C dX3_room_6 1 rfl ?_
  refine tc_X3_isRoom B hw (Nat.le_of_ble_eq_true rfl) (Nat.le_of_ble_eq_true rfl) (Nat.le_of_ble_eq_true rfl) dX3_room_7 (fun r4 J2 l3 br4 hw => ?_)
  refine gj_if_eq (tgt := 43) C dX3_room_10 rfl (fun c5 => ?_) (fun c5 => ?_)
  · have hw := it_t hw c5
    refine gj_iconst (v := 0) C dX3_room_43 rfl ?_
    exact gt_iret B hw dX3_room_44
  · have hw := it_f hw c5
    refine gj_aload_n C dX3_room_13 0 rfl ?_
    refine gj_iload_n C dX3_room_14 2 rfl ?_
    refine tc_X3_isTwo B hw (Nat.le_of_ble_eq_true rfl) (Nat.le_of_ble_eq_true rfl) (Nat.le_of_ble_eq_true rfl) dX3_room_15 (fun r8 J6 l7 br8 hw => ?_)
    refine gj_if_eq (tgt := 43) C dX3_room_18 rfl (fun c9 => ?_) (fun c9 => ?_)
    · have hw := it_t hw c9
      refine gj_iconst (v := 0) C dX3_room_43 rfl ?_
      exact gt_iret B hw dX3_room_44
    · have hw := it_f hw c9
      refine gj_iload_n C dX3_room_21 2 rfl ?_
      refine gj_if_ne (tgt := 34) C dX3_room_22 rfl (fun c10 => ?_) (fun c10 => ?_)
      · have hw := it_f hw c10
        refine gj_aload_n C dX3_room_34 0 rfl ?_
        refine tg13 C hW dX3_room_35 ?_
        refine gj_iload_n C dX3_room_38 1 rfl ?_
        obtain ⟨h11, hw⟩ := hw
        refine gt_iald C hW (by decide) h11 dX3_room_39 ?_
        refine gj_goto (tgt := 44) C dX3_room_40 rfl ?_
        exact gt_iret B hw dX3_room_44
      · have hw := it_t hw c10
        refine gj_aload_n C dX3_room_25 0 rfl ?_
        refine tg7 C hW dX3_room_26 ?_
        refine gj_iload_n C dX3_room_29 1 rfl ?_
        obtain ⟨h12, hw⟩ := hw
        refine gt_iald C hW (by decide) h12 dX3_room_30 ?_
        refine gj_goto (tgt := 44) C dX3_room_31 rfl ?_
        exact gt_iret B hw dX3_room_44

theorem met_X3_room (l : Launch) {d : TD} {t : Nat} {J : Nat → Nat → Int32} {lw : Int64} {p1 : Int32} {p2 : Int32} {Φ : Int32 → (Nat → Nat → Int32) → Int64 → Prop} (hw : wp_X3_room p1 p2 Φ J lw) : MetT l yX3_room prog_11_method_36_code 3 (some .int) 2 43 [.ref t, .int p1, .int p2] d t J lw (ansI Φ) :=
  mt_of (by decide +kernel) rfl (Nat.le_of_ble_eq_true rfl) (fun g _ B => wk_X3_room B _ _ _ J lw hw)
/-! isLodger(I)Z -/
def wp_X3_isLodger (p1 : Int32) (Φ : Int32 → (Nat → Nat → Int32) → Int64 → Prop) (J : Nat → Nat → Int32) (lw : Int64) : Prop :=
(∀ x1 : Int32, x1 = (if p1 < 0 then 0 else (if (J 0 2) ≤ p1 then 0 else 1)) → (wp_X3_right x1 1 (fun r6 J4 l5 => Φ r6 J4 l5) J lw))
theorem wk_X3_isLodger {g : Gm} {d : TD} {t : Nat} (B : BdT g d prog_11_method_32_code 2 (some .boolean) 1 22) (p1 : Int32) (Φ : Int32 → (Nat → Nat → Int32) → Int64 → Prop) (J : Nat → Nat → Int32) (lw : Int64) (hw : wp_X3_isLodger p1 Φ J lw) : GJ g 2 (TP d t J lw (gs g).heap) 0 (TQ g d t (ansZ Φ)) 0 [(0, rv (t + 1)), (1, .int p1)] [] := by
  unfold wp_X3_isLodger at hw
  have C := B.1
  have hW := B.2.1
  refine gj_aload_n C dX3_isLodger_0 0 rfl ?_
  refine gj_iload_n C dX3_isLodger_1 1 rfl ?_
  have key : ∀ x1 : Int32, x1 = (if p1 < 0 then 0 else (if (J 0 2) ≤ p1 then 0 else 1)) → GJ g 2 (TP d t J lw (gs g).heap) 0 (TQ g d t (ansZ Φ)) 18 [(0, rv (t + 1)), (1, .int p1)] [.int x1, rv (t + 1)] → GJ g 2 (TP d t J lw (gs g).heap) 0 (TQ g d t (ansZ Φ)) 2 [(0, rv (t + 1)), (1, .int p1)] [.int p1, rv (t + 1)] := by
    intro x1 ex1 kk
    refine gj_if_lt (tgt := 17) C dX3_isLodger_2 rfl (fun c2 => ?_) (fun c2 => ?_)
    · refine gj_iconst (v := 0) C dX3_isLodger_17 rfl ?_
      rw [if_pos c2] at ex1
      subst ex1
      exact kk
    · refine gj_iload_n C dX3_isLodger_5 1 rfl ?_
      refine gj_aload_n C dX3_isLodger_6 0 rfl ?_
      refine tg251 C hW dX3_isLodger_7 ?_
      refine gj_icmp_ge (tgt := 17) C dX3_isLodger_10 rfl (fun c3 => ?_) (fun c3 => ?_)
      · refine gj_iconst (v := 0) C dX3_isLodger_17 rfl ?_
        rw [if_neg c2, if_pos c3] at ex1
        subst ex1
        exact kk
      · refine gj_iconst (v := 1) C dX3_isLodger_13 rfl ?_
        refine gj_goto (tgt := 18) C dX3_isLodger_14 rfl ?_
        rw [if_neg c2, if_neg c3] at ex1
        subst ex1
        exact kk
  obtain ⟨x1, ex1⟩ : ∃ x1 : Int32, x1 = (if p1 < 0 then 0 else (if (J 0 2) ≤ p1 then 0 else 1)) := ⟨_, rfl⟩
  have bx1 : x1 = 0 ∨ x1 = 1 := by rw [ex1]; (repeat' split) <;> simp
  refine key x1 ex1 ?_
  have hw := hw x1 ex1
  clear key
  refine gj_iconst (v := 1) C dX3_isLodger_18 rfl ?_
  refine tc_X3_right B hw (Nat.le_of_ble_eq_true rfl) (Nat.le_of_ble_eq_true rfl) (Nat.le_of_ble_eq_true rfl) dX3_isLodger_19 (fun r6 J4 l5 br6 hw => ?_)
  exact gt_zret B (br6) hw dX3_isLodger_22

theorem met_X3_isLodger (l : Launch) {d : TD} {t : Nat} {J : Nat → Nat → Int32} {lw : Int64} {p1 : Int32} {Φ : Int32 → (Nat → Nat → Int32) → Int64 → Prop} (hw : wp_X3_isLodger p1 Φ J lw) : MetT l yX3_isLodger prog_11_method_32_code 2 (some .boolean) 1 22 [.ref t, .int p1] d t J lw (ansZ Φ) :=
  mt_of (by decide +kernel) rfl (Nat.le_of_ble_eq_true rfl) (fun g _ B => wk_X3_isLodger B _ _ J lw hw)
theorem tc_X3_isLodger {g : Gm} {d : TD} {t : Nat} {cc : ByteArray} {nL : Nat} {ret : Option FieldType} {fr lo : Nat} (B : BdT g d cc nL ret fr lo) {J : Nat → Nat → Int32} {lw : Int64} {H0 : Heap} {Q : State → Prop} {pc : Nat} {lc : List (Nat × Value)} {rest : List Value} {p1 : Int32} {Φ : Int32 → (Nat → Nat → Int32) → Int64 → Prop} (hw : wp_X3_isLodger p1 Φ J lw) (hf : 2 ≤ fr) (hlo : 43 ≤ lo) (hrest : (rest.map fun v => v.category).sum ≤ 8) (dg : decode cc pc = .ok (.invokevirtual 302, 3)) (k : ∀ (r : Int32) J' lw', (r = 0 ∨ r = 1) → Φ r J' lw' → GJ g nL (TP d t J' lw' H0) 0 Q (pc + 3) lc (.int r :: rest)) : GJ g nL (TP d t J lw H0) 0 Q pc lc (.int p1 :: rv (t + 1) :: rest) :=
  gt_callV (n := 1) (As := [.int p1]) B (met_X3_isLodger g.2.1 hw) (lw_V q1524 q1526 qs58 q97 q1527) ⟨rfl, by decide +kernel, by decide +kernel, by decide +kernel⟩ rfl hf hlo ⟨Nat.zero_le _, Nat.zero_le _⟩ rfl hrest dg (fun v J' lw' hp => by obtain ⟨r, rfl, hb, hp⟩ := hp; exact k r J' lw' hb hp)
/-! has(II)I -/
def wf_X3_has_16 (p1 : Int32) (p2 : Int32) (Φ : Int32 → (Nat → Nat → Int32) → Int64 → Prop) (X16 : Int32 → Int32 → (Nat → Nat → Int32) → Int64 → Prop) (v3 : Int32) (v4 : Int32) (J : Nat → Nat → Int32) (lw : Int64) : Prop :=
(if (J 0 36) ≤ v4 then Φ v3 J lw else (vp_in ((3 * v4) + 2) (tln 37) ∧ (if (J 37 (Int32.toNatClampNeg ((3 * v4) + 2))) = p2 then (vp_in (3 * v4) (tln 37) ∧ (∀ x7 : Int32, x7 = (if (J 37 (Int32.toNatClampNeg (3 * v4))) = p1 then 1 else 0) → (∀ x9 : Int32, x9 = (v3 - x7) → (vp_in ((3 * v4) + 1) (tln 37) ∧ (∀ x11 : Int32, x11 = (if (J 37 (Int32.toNatClampNeg ((3 * v4) + 1))) = p1 then 1 else 0) → (∀ x13 : Int32, x13 = (x9 + x11) → (∀ x14 : Int32, x14 = v4 + 1 → X16 x13 x14 J lw))))))) else (∀ x15 : Int32, x15 = v4 + 1 → X16 v3 x15 J lw))))
def wl_X3_has_16 (p1 : Int32) (p2 : Int32) (Φ : Int32 → (Nat → Nat → Int32) → Int64 → Prop) (v3 : Int32) (v4 : Int32) (J : Nat → Nat → Int32) (lw : Int64) : Prop := ∀ X16 : Int32 → Int32 → (Nat → Nat → Int32) → Int64 → Prop, (∀ v3 v4 J lw, wf_X3_has_16 p1 p2 Φ X16 v3 v4 J lw → X16 v3 v4 J lw) → X16 v3 v4 J lw
theorem wk_X3_has_16 {g : Gm} {d : TD} {t : Nat} (B : BdT g d prog_11_method_37_code 5 (some .int) 0 0) (p1 : Int32) (p2 : Int32) (Φ : Int32 → (Nat → Nat → Int32) → Int64 → Prop) (X16 : Int32 → Int32 → (Nat → Nat → Int32) → Int64 → Prop) (hX16 : ∀ v3 v4 J lw, X16 v3 v4 J lw → GJ g 5 (TP d t J lw (gs g).heap) 0 (TQ g d t (ansI Φ)) 16 [(0, rv (t + 1)), (1, .int p1), (2, .int p2), (3, .int v3), (4, .int v4)] []) (v3 : Int32) (v4 : Int32) (J : Nat → Nat → Int32) (lw : Int64) (hw : wf_X3_has_16 p1 p2 Φ X16 v3 v4 J lw) : GJ g 5 (TP d t J lw (gs g).heap) 0 (TQ g d t (ansI Φ)) 16 [(0, rv (t + 1)), (1, .int p1), (2, .int p2), (3, .int v3), (4, .int v4)] [] := by
  unfold wf_X3_has_16 at hw
  have C := B.1
  have hW := B.2.1
  refine gj_iload C dX3_has_16 4 rfl ?_
  refine gj_aload_n C dX3_has_18 0 rfl ?_
  refine tg264 C hW dX3_has_19 ?_
  refine gj_icmp_ge (tgt := 93) C dX3_has_22 rfl (fun c3 => ?_) (fun c3 => ?_)
  · have hw := it_t hw c3
    refine gj_iload_n C dX3_has_93 3 rfl ?_
    exact gt_iret B hw dX3_has_94
  · have hw := it_f hw c3
    refine gj_aload_n C dX3_has_25 0 rfl ?_
    refine tg62 C hW dX3_has_26 ?_
    refine gj_iconst (v := 3) C dX3_has_29 rfl ?_
    refine gj_iload C dX3_has_30 4 rfl ?_
    refine gj_imul C dX3_has_32 ?_
    refine gj_iconst (v := 2) C dX3_has_33 rfl ?_
    refine gj_iadd C dX3_has_34 ?_
    obtain ⟨h4, hw⟩ := hw
    refine gt_iald C hW (by decide) h4 dX3_has_35 ?_
    refine gj_iload_n C dX3_has_36 2 rfl ?_
    refine gj_icmp_eq (tgt := 43) C dX3_has_37 rfl (fun c5 => ?_) (fun c5 => ?_)
    · have hw := it_t hw c5
      refine gj_iload_n C dX3_has_43 3 rfl ?_
      refine gj_aload_n C dX3_has_44 0 rfl ?_
      refine tg62 C hW dX3_has_45 ?_
      refine gj_iconst (v := 3) C dX3_has_48 rfl ?_
      refine gj_iload C dX3_has_49 4 rfl ?_
      refine gj_imul C dX3_has_51 ?_
      obtain ⟨h6, hw⟩ := hw
      refine gt_iald C hW (by decide) h6 dX3_has_52 ?_
      refine gj_iload_n C dX3_has_53 1 rfl ?_
      have key : ∀ x7 : Int32, x7 = (if (J 37 (Int32.toNatClampNeg (3 * v4))) = p1 then 1 else 0) → GJ g 5 (TP d t J lw (gs g).heap) 0 (TQ g d t (ansI Φ)) 62 [(0, rv (t + 1)), (1, .int p1), (2, .int p2), (3, .int v3), (4, .int v4)] [.int x7, .int v3] → GJ g 5 (TP d t J lw (gs g).heap) 0 (TQ g d t (ansI Φ)) 54 [(0, rv (t + 1)), (1, .int p1), (2, .int p2), (3, .int v3), (4, .int v4)] [.int p1, .int (J 37 (Int32.toNatClampNeg (3 * v4))), .int v3] := by
        intro x7 ex7 kk
        refine gj_icmp_ne (tgt := 61) C dX3_has_54 rfl (fun c8 => ?_) (fun c8 => ?_)
        · refine gj_iconst (v := 0) C dX3_has_61 rfl ?_
          rw [if_neg c8] at ex7
          subst ex7
          exact kk
        · refine gj_iconst (v := 1) C dX3_has_57 rfl ?_
          refine gj_goto (tgt := 62) C dX3_has_58 rfl ?_
          rw [if_pos c8] at ex7
          subst ex7
          exact kk
      obtain ⟨x7, ex7⟩ : ∃ x7 : Int32, x7 = (if (J 37 (Int32.toNatClampNeg (3 * v4))) = p1 then 1 else 0) := ⟨_, rfl⟩
      have bx7 : x7 = 0 ∨ x7 = 1 := by rw [ex7]; (repeat' split) <;> simp
      refine key x7 ex7 ?_
      have hw := hw x7 ex7
      clear key
      refine gj_isub C dX3_has_62 ?_
      refine gj_topi (fun x9 ex9 => ?_)
      have hw := hw x9 ex9
      refine gj_istore_n (lc' := [(3, .int x9), (0, rv (t + 1)), (1, .int p1), (2, .int p2), (4, .int v4)]) C dX3_has_63 (Nat.le_of_ble_eq_true rfl) rfl ?_
      refine gj_iload_n C dX3_has_64 0 rfl ?_
      refine gj_aload_n C dX3_has_65 1 rfl ?_
      refine tg62 C hW dX3_has_66 ?_
      refine gj_iconst (v := 3) C dX3_has_69 rfl ?_
      refine gj_iload C dX3_has_70 4 rfl ?_
      refine gj_imul C dX3_has_72 ?_
      refine gj_iconst (v := 1) C dX3_has_73 rfl ?_
      refine gj_iadd C dX3_has_74 ?_
      obtain ⟨h10, hw⟩ := hw
      refine gt_iald C hW (by decide) h10 dX3_has_75 ?_
      refine gj_iload_n C dX3_has_76 2 rfl ?_
      have key : ∀ x11 : Int32, x11 = (if (J 37 (Int32.toNatClampNeg ((3 * v4) + 1))) = p1 then 1 else 0) → GJ g 5 (TP d t J lw (gs g).heap) 0 (TQ g d t (ansI Φ)) 85 [(3, .int x9), (0, rv (t + 1)), (1, .int p1), (2, .int p2), (4, .int v4)] [.int x11, .int x9] → GJ g 5 (TP d t J lw (gs g).heap) 0 (TQ g d t (ansI Φ)) 77 [(3, .int x9), (0, rv (t + 1)), (1, .int p1), (2, .int p2), (4, .int v4)] [.int p1, .int (J 37 (Int32.toNatClampNeg ((3 * v4) + 1))), .int x9] := by
        intro x11 ex11 kk
        refine gj_icmp_ne (tgt := 84) C dX3_has_77 rfl (fun c12 => ?_) (fun c12 => ?_)
        · refine gj_iconst (v := 0) C dX3_has_84 rfl ?_
          rw [if_neg c12] at ex11
          subst ex11
          exact kk
        · refine gj_iconst (v := 1) C dX3_has_80 rfl ?_
          refine gj_goto (tgt := 85) C dX3_has_81 rfl ?_
          rw [if_pos c12] at ex11
          subst ex11
          exact kk
      obtain ⟨x11, ex11⟩ : ∃ x11 : Int32, x11 = (if (J 37 (Int32.toNatClampNeg ((3 * v4) + 1))) = p1 then 1 else 0) := ⟨_, rfl⟩
      have bx11 : x11 = 0 ∨ x11 = 1 := by rw [ex11]; (repeat' split) <;> simp
      refine key x11 ex11 ?_
      have hw := hw x11 ex11
      clear key
      refine gj_iadd C dX3_has_85 ?_
      refine gj_topi (fun x13 ex13 => ?_)
      have hw := hw x13 ex13
      refine gj_istore_n (lc' := [(3, .int x13), (0, rv (t + 1)), (1, .int p1), (2, .int p2), (4, .int v4)]) C dX3_has_86 (Nat.le_of_ble_eq_true rfl) rfl ?_
      obtain ⟨x14, ex14⟩ : ∃ x14 : Int32, x14 = v4 + 1 := ⟨_, rfl⟩
      have hw := hw x14 ex14
      refine gj_iinc (lc' := [(4, .int x14), (3, .int x13), (0, rv (t + 1)), (1, .int p1), (2, .int p2)]) (w := 1) (v := x14) C dX3_has_87 4 rfl rfl ex14.symm (Nat.le_of_ble_eq_true rfl) rfl ?_
      refine gj_goto (tgt := 16) C dX3_has_90 rfl ?_
      refine gj_sub (lc' := [(0, rv (t + 1)), (1, .int p1), (2, .int p2), (3, .int x13), (4, .int x14)]) [2, 3, 4, 1, 0] rfl ?_
      exact hX16 _ _ _ _ hw
    · have hw := it_f hw c5
      refine gj_goto (tgt := 87) C dX3_has_40 rfl ?_
      obtain ⟨x15, ex15⟩ : ∃ x15 : Int32, x15 = v4 + 1 := ⟨_, rfl⟩
      have hw := hw x15 ex15
      refine gj_iinc (lc' := [(4, .int x15), (0, rv (t + 1)), (1, .int p1), (2, .int p2), (3, .int v3)]) (w := 1) (v := x15) C dX3_has_87 4 rfl rfl ex15.symm (Nat.le_of_ble_eq_true rfl) rfl ?_
      refine gj_goto (tgt := 16) C dX3_has_90 rfl ?_
      refine gj_sub (lc' := [(0, rv (t + 1)), (1, .int p1), (2, .int p2), (3, .int v3), (4, .int x15)]) [1, 2, 3, 4, 0] rfl ?_
      exact hX16 _ _ _ _ hw

theorem wq_X3_has_16 {g : Gm} {d : TD} {t : Nat} (B : BdT g d prog_11_method_37_code 5 (some .int) 0 0) (p1 : Int32) (p2 : Int32) (Φ : Int32 → (Nat → Nat → Int32) → Int64 → Prop) (v3 : Int32) (v4 : Int32) (J : Nat → Nat → Int32) (lw : Int64) (hw : wl_X3_has_16 p1 p2 Φ v3 v4 J lw) : GJ g 5 (TP d t J lw (gs g).heap) 0 (TQ g d t (ansI Φ)) 16 [(0, rv (t + 1)), (1, .int p1), (2, .int p2), (3, .int v3), (4, .int v4)] [] :=
  hw (fun v3 v4 J lw => GJ g 5 (TP d t J lw (gs g).heap) 0 (TQ g d t (ansI Φ)) 16 [(0, rv (t + 1)), (1, .int p1), (2, .int p2), (3, .int v3), (4, .int v4)] []) (fun v3 v4 J lw h => wk_X3_has_16 B p1 p2 Φ (fun v3 v4 J lw => GJ g 5 (TP d t J lw (gs g).heap) 0 (TQ g d t (ansI Φ)) 16 [(0, rv (t + 1)), (1, .int p1), (2, .int p2), (3, .int v3), (4, .int v4)] []) (fun v3 v4 J lw h => h) v3 v4 J lw h)
def wp_X3_has (p1 : Int32) (p2 : Int32) (Φ : Int32 → (Nat → Nat → Int32) → Int64 → Prop) (J : Nat → Nat → Int32) (lw : Int64) : Prop :=
(vp_in (((2 * p1) + p2) - 1) (tln 8) ∧ (∀ x2 : Int32, x2 = (J 8 (Int32.toNatClampNeg (((2 * p1) + p2) - 1))) → wl_X3_has_16 p1 p2 Φ x2 0 J lw))
theorem wk_X3_has {g : Gm} {d : TD} {t : Nat} (B : BdT g d prog_11_method_37_code 5 (some .int) 0 0) (p1 : Int32) (p2 : Int32) (Φ : Int32 → (Nat → Nat → Int32) → Int64 → Prop) (J : Nat → Nat → Int32) (lw : Int64) (hw : wp_X3_has p1 p2 Φ J lw) : GJ g 5 (TP d t J lw (gs g).heap) 0 (TQ g d t (ansI Φ)) 0 [(0, rv (t + 1)), (1, .int p1), (2, .int p2)] [] := by
  unfold wp_X3_has at hw
  have C := B.1
  have hW := B.2.1
  refine gj_aload_n C dX3_has_0 0 rfl ?_
  refine tg19 C hW dX3_has_1 ?_
  refine gj_iconst (v := 2) C dX3_has_4 rfl ?_
  refine gj_iload_n C dX3_has_5 1 rfl ?_
  refine gj_imul C dX3_has_6 ?_
  refine gj_iload_n C dX3_has_7 2 rfl ?_
  refine gj_iadd C dX3_has_8 ?_
  refine gj_iconst (v := 1) C dX3_has_9 rfl ?_
  refine gj_isub C dX3_has_10 ?_
  obtain ⟨h1, hw⟩ := hw
  refine gt_iald C hW (by decide) h1 dX3_has_11 ?_
  refine gj_topi (fun x2 ex2 => ?_)
  have hw := hw x2 ex2
  refine gj_istore_n (lc' := [(3, .int x2), (0, rv (t + 1)), (1, .int p1), (2, .int p2)]) C dX3_has_12 (Nat.le_of_ble_eq_true rfl) rfl ?_
  refine gj_iconst (v := 0) C dX3_has_13 rfl ?_
  refine gj_istore (lc' := [(4, .int 0), (3, .int x2), (0, rv (t + 1)), (1, .int p1), (2, .int p2)]) C dX3_has_14 (Nat.le_of_ble_eq_true rfl) rfl ?_
  refine gj_sub (lc' := [(0, rv (t + 1)), (1, .int p1), (2, .int p2), (3, .int x2), (4, .int 0)]) [2, 3, 4, 1, 0] rfl ?_
  exact wq_X3_has_16 B _ _ _ _ _ _ _ hw

theorem met_X3_has (l : Launch) {d : TD} {t : Nat} {J : Nat → Nat → Int32} {lw : Int64} {p1 : Int32} {p2 : Int32} {Φ : Int32 → (Nat → Nat → Int32) → Int64 → Prop} (hw : wp_X3_has p1 p2 Φ J lw) : MetT l yX3_has prog_11_method_37_code 5 (some .int) 0 0 [.ref t, .int p1, .int p2] d t J lw (ansI Φ) :=
  mt_of (by decide +kernel) rfl (Nat.le_of_ble_eq_true rfl) (fun g _ B => wk_X3_has B _ _ _ J lw hw)
theorem tc_X3_has {g : Gm} {d : TD} {t : Nat} {cc : ByteArray} {nL : Nat} {ret : Option FieldType} {fr lo : Nat} (B : BdT g d cc nL ret fr lo) {J : Nat → Nat → Int32} {lw : Int64} {H0 : Heap} {Q : State → Prop} {pc : Nat} {lc : List (Nat × Value)} {rest : List Value} {p1 : Int32} {p2 : Int32} {Φ : Int32 → (Nat → Nat → Int32) → Int64 → Prop} (hw : wp_X3_has p1 p2 Φ J lw) (hf : 1 ≤ fr) (hlo : 24 ≤ lo) (hrest : (rest.map fun v => v.category).sum ≤ 8) (dg : decode cc pc = .ok (.invokevirtual 293, 3)) (k : ∀ (r : Int32) J' lw', Φ r J' lw' → GJ g nL (TP d t J' lw' H0) 0 Q (pc + 3) lc (.int r :: rest)) : GJ g nL (TP d t J lw H0) 0 Q pc lc (.int p2 :: .int p1 :: rv (t + 1) :: rest) :=
  gt_callV (n := 2) (As := [.int p1, .int p2]) B (met_X3_has g.2.1 hw) (lw_V q1528 q1530 qs59 q97 q1531) ⟨rfl, by decide +kernel, by decide +kernel, by decide +kernel⟩ rfl hf hlo ⟨Nat.zero_le _, Nat.zero_le _⟩ rfl hrest dg (fun v J' lw' hp => by obtain ⟨r, rfl, hp⟩ := hp; exact k r J' lw' hp)
/-! lodger(II)I -/
def wp_X3_lodger (p1 : Int32) (p2 : Int32) (Φ : Int32 → (Nat → Nat → Int32) → Int64 → Prop) (J : Nat → Nat → Int32) (lw : Int64) : Prop :=
(∀ J1 : Nat → Nat → Int32, J1 = u2 J 0 0 0 → (wp_X3_isLodger p1 (fun r4 J2 l3 => (if r4 = 0 then Φ 0 J2 l3 else (wp_X3_within p2 0 2 (fun r8 J6 l7 => (wp_X3_right r8 1 (fun r11 J9 l10 => (if r11 = 0 then Φ 0 J9 l10 else (if p2 = 0 then (vp_in p1 (tln 7) ∧ Φ (J9 7 (Int32.toNatClampNeg p1)) J9 l10) else (wp_X3_has p1 p2 (fun r16 J14 l15 => Φ r16 J14 l15) J9 l10)))) J6 l7)) J2 l3))) J1 lw))
theorem wk_X3_lodger {g : Gm} {d : TD} {t : Nat} (B : BdT g d prog_11_method_41_code 3 (some .int) 2 43) (p1 : Int32) (p2 : Int32) (Φ : Int32 → (Nat → Nat → Int32) → Int64 → Prop) (J : Nat → Nat → Int32) (lw : Int64) (hw : wp_X3_lodger p1 p2 Φ J lw) : GJ g 3 (TP d t J lw (gs g).heap) 0 (TQ g d t (ansI Φ)) 0 [(0, rv (t + 1)), (1, .int p1), (2, .int p2)] [] := by
  unfold wp_X3_lodger at hw
  have C := B.1
  have hW := B.2.1
  refine gj_aload_n C dX3_lodger_0 0 rfl ?_
  refine gj_iconst (v := 0) C dX3_lodger_1 rfl ?_
  refine tp134 C hW dX3_lodger_2 ?_
  refine gt_nmJ (fun J1 eJ1 => ?_)
  have hw := hw J1 eJ1
  refine gj_aload_n C dX3_lodger_5 0 rfl ?_
  refine gj_iload_n C dX3_lodger_6 1 rfl ?_
  refine tc_X3_isLodger B hw (Nat.le_of_ble_eq_true rfl) (Nat.le_of_ble_eq_true rfl) (Nat.le_of_ble_eq_true rfl) dX3_lodger_7 (fun r4 J2 l3 br4 hw => ?_)
  refine gj_if_eq (tgt := 27) C dX3_lodger_10 rfl (fun c5 => ?_) (fun c5 => ?_)
  · have hw := it_t hw c5
    refine gj_iconst (v := 0) C dX3_lodger_27 rfl ?_
    exact gt_iret B hw dX3_lodger_28
  · have hw := it_f hw c5
    refine gj_aload_n C dX3_lodger_13 0 rfl ?_
    refine gj_iload_n C dX3_lodger_14 2 rfl ?_
    refine gj_iconst (v := 0) C dX3_lodger_15 rfl ?_
    refine gj_iconst (v := 2) C dX3_lodger_16 rfl ?_
    refine tc_X3_within B hw (Nat.le_of_ble_eq_true rfl) (Nat.le_of_ble_eq_true rfl) (Nat.le_of_ble_eq_true rfl) dX3_lodger_17 (fun r8 J6 l7 br8 hw => ?_)
    refine gj_iconst (v := 1) C dX3_lodger_20 rfl ?_
    refine tc_X3_right B hw (Nat.le_of_ble_eq_true rfl) (Nat.le_of_ble_eq_true rfl) (Nat.le_of_ble_eq_true rfl) dX3_lodger_21 (fun r11 J9 l10 br11 hw => ?_)
    refine gj_if_ne (tgt := 29) C dX3_lodger_24 rfl (fun c12 => ?_) (fun c12 => ?_)
    · have hw := it_f hw c12
      refine gj_iload_n C dX3_lodger_29 2 rfl ?_
      refine gj_if_ne (tgt := 42) C dX3_lodger_30 rfl (fun c13 => ?_) (fun c13 => ?_)
      · have hw := it_f hw c13
        refine gj_aload_n C dX3_lodger_42 0 rfl ?_
        refine gj_iload_n C dX3_lodger_43 1 rfl ?_
        refine gj_iload_n C dX3_lodger_44 2 rfl ?_
        refine tc_X3_has B hw (Nat.le_of_ble_eq_true rfl) (Nat.le_of_ble_eq_true rfl) (Nat.le_of_ble_eq_true rfl) dX3_lodger_45 (fun r16 J14 l15 hw => ?_)
        exact gt_iret B hw dX3_lodger_48
      · have hw := it_t hw c13
        refine gj_aload_n C dX3_lodger_33 0 rfl ?_
        refine tg16 C hW dX3_lodger_34 ?_
        refine gj_iload_n C dX3_lodger_37 1 rfl ?_
        obtain ⟨h17, hw⟩ := hw
        refine gt_iald C hW (by decide) h17 dX3_lodger_38 ?_
        refine gj_goto (tgt := 48) C dX3_lodger_39 rfl ?_
        exact gt_iret B hw dX3_lodger_48
    · have hw := it_t hw c12
      refine gj_iconst (v := 0) C dX3_lodger_27 rfl ?_
      exact gt_iret B hw dX3_lodger_28

theorem met_X3_lodger (l : Launch) {d : TD} {t : Nat} {J : Nat → Nat → Int32} {lw : Int64} {p1 : Int32} {p2 : Int32} {Φ : Int32 → (Nat → Nat → Int32) → Int64 → Prop} (hw : wp_X3_lodger p1 p2 Φ J lw) : MetT l yX3_lodger prog_11_method_41_code 3 (some .int) 2 43 [.ref t, .int p1, .int p2] d t J lw (ansI Φ) :=
  mt_of (by decide +kernel) rfl (Nat.le_of_ble_eq_true rfl) (fun g _ B => wk_X3_lodger B _ _ _ J lw hw)
/-! isHour(I)Z -/
def wp_X3_isHour (p1 : Int32) (Φ : Int32 → (Nat → Nat → Int32) → Int64 → Prop) (J : Nat → Nat → Int32) (lw : Int64) : Prop :=
(wp_X3_within p1 0 23 (fun r3 J1 l2 => (wp_X3_right r3 1 (fun r6 J4 l5 => Φ r6 J4 l5) J1 l2)) J lw)
theorem wk_X3_isHour {g : Gm} {d : TD} {t : Nat} (B : BdT g d prog_11_method_34_code 2 (some .boolean) 1 22) (p1 : Int32) (Φ : Int32 → (Nat → Nat → Int32) → Int64 → Prop) (J : Nat → Nat → Int32) (lw : Int64) (hw : wp_X3_isHour p1 Φ J lw) : GJ g 2 (TP d t J lw (gs g).heap) 0 (TQ g d t (ansZ Φ)) 0 [(0, rv (t + 1)), (1, .int p1)] [] := by
  unfold wp_X3_isHour at hw
  have C := B.1
  have hW := B.2.1
  refine gj_aload_n C dX3_isHour_0 0 rfl ?_
  refine gj_iload_n C dX3_isHour_1 1 rfl ?_
  refine gj_iconst (v := 0) C dX3_isHour_2 rfl ?_
  refine gj_bipush (v := 23) C dX3_isHour_3 rfl ?_
  refine tc_X3_within B hw (Nat.le_of_ble_eq_true rfl) (Nat.le_of_ble_eq_true rfl) (Nat.le_of_ble_eq_true rfl) dX3_isHour_5 (fun r3 J1 l2 br3 hw => ?_)
  refine gj_iconst (v := 1) C dX3_isHour_8 rfl ?_
  refine tc_X3_right B hw (Nat.le_of_ble_eq_true rfl) (Nat.le_of_ble_eq_true rfl) (Nat.le_of_ble_eq_true rfl) dX3_isHour_9 (fun r6 J4 l5 br6 hw => ?_)
  exact gt_zret B (br6) hw dX3_isHour_12

theorem met_X3_isHour (l : Launch) {d : TD} {t : Nat} {J : Nat → Nat → Int32} {lw : Int64} {p1 : Int32} {Φ : Int32 → (Nat → Nat → Int32) → Int64 → Prop} (hw : wp_X3_isHour p1 Φ J lw) : MetT l yX3_isHour prog_11_method_34_code 2 (some .boolean) 1 22 [.ref t, .int p1] d t J lw (ansZ Φ) :=
  mt_of (by decide +kernel) rfl (Nat.le_of_ble_eq_true rfl) (fun g _ B => wk_X3_isHour B _ _ J lw hw)
theorem tc_X3_isHour {g : Gm} {d : TD} {t : Nat} {cc : ByteArray} {nL : Nat} {ret : Option FieldType} {fr lo : Nat} (B : BdT g d cc nL ret fr lo) {J : Nat → Nat → Int32} {lw : Int64} {H0 : Heap} {Q : State → Prop} {pc : Nat} {lc : List (Nat × Value)} {rest : List Value} {p1 : Int32} {Φ : Int32 → (Nat → Nat → Int32) → Int64 → Prop} (hw : wp_X3_isHour p1 Φ J lw) (hf : 2 ≤ fr) (hlo : 43 ≤ lo) (hrest : (rest.map fun v => v.category).sum ≤ 8) (dg : decode cc pc = .ok (.invokevirtual 305, 3)) (k : ∀ (r : Int32) J' lw', (r = 0 ∨ r = 1) → Φ r J' lw' → GJ g nL (TP d t J' lw' H0) 0 Q (pc + 3) lc (.int r :: rest)) : GJ g nL (TP d t J lw H0) 0 Q pc lc (.int p1 :: rv (t + 1) :: rest) :=
  gt_callV (n := 1) (As := [.int p1]) B (met_X3_isHour g.2.1 hw) (lw_V q1536 q1538 qs60 q97 q1539) ⟨rfl, by decide +kernel, by decide +kernel, by decide +kernel⟩ rfl hf hlo ⟨Nat.zero_le _, Nat.zero_le _⟩ rfl hrest dg (fun v J' lw' hp => by obtain ⟨r, rfl, hb, hp⟩ := hp; exact k r J' lw' hb hp)
/-! bits(I)I -/
def wf_X3_bits_4 (p0 : Int32) (Φ : Int32 → (Nat → Nat → Int32) → Int64 → Prop) (X4 : Int32 → Int32 → (Nat → Nat → Int32) → Int64 → Prop) (v1 : Int32) (v2 : Int32) (J : Nat → Nat → Int32) (lw : Int64) : Prop :=
(if 18 ≤ v2 then Φ v1 J lw else (∀ x2 : Int32, x2 = (v1 + ((p0 >>> (v2 &&& 31)) &&& 1)) → (∀ x3 : Int32, x3 = v2 + 1 → X4 x2 x3 J lw)))
def wl_X3_bits_4 (p0 : Int32) (Φ : Int32 → (Nat → Nat → Int32) → Int64 → Prop) (v1 : Int32) (v2 : Int32) (J : Nat → Nat → Int32) (lw : Int64) : Prop := ∀ X4 : Int32 → Int32 → (Nat → Nat → Int32) → Int64 → Prop, (∀ v1 v2 J lw, wf_X3_bits_4 p0 Φ X4 v1 v2 J lw → X4 v1 v2 J lw) → X4 v1 v2 J lw
theorem wk_X3_bits_4 {g : Gm} {d : TD} {t : Nat} (B : BdT g d prog_11_method_6_code 3 (some .int) 0 0) (p0 : Int32) (Φ : Int32 → (Nat → Nat → Int32) → Int64 → Prop) (X4 : Int32 → Int32 → (Nat → Nat → Int32) → Int64 → Prop) (hX4 : ∀ v1 v2 J lw, X4 v1 v2 J lw → GJ g 3 (TP d t J lw (gs g).heap) 0 (TQ g d t (ansI Φ)) 4 [(0, .int p0), (1, .int v1), (2, .int v2)] []) (v1 : Int32) (v2 : Int32) (J : Nat → Nat → Int32) (lw : Int64) (hw : wf_X3_bits_4 p0 Φ X4 v1 v2 J lw) : GJ g 3 (TP d t J lw (gs g).heap) 0 (TQ g d t (ansI Φ)) 4 [(0, .int p0), (1, .int v1), (2, .int v2)] [] := by
  unfold wf_X3_bits_4 at hw
  have C := B.1
  have hW := B.2.1
  refine gj_iload_n C dX3_bits_4 2 rfl ?_
  refine gj_bipush (v := 18) C dX3_bits_5 rfl ?_
  refine gj_icmp_ge (tgt := 24) C dX3_bits_7 rfl (fun c1 => ?_) (fun c1 => ?_)
  · have hw := it_t hw c1
    refine gj_iload_n C dX3_bits_24 1 rfl ?_
    exact gt_iret B hw dX3_bits_25
  · have hw := it_f hw c1
    refine gj_iload_n C dX3_bits_10 1 rfl ?_
    refine gj_iload_n C dX3_bits_11 0 rfl ?_
    refine gj_iload_n C dX3_bits_12 2 rfl ?_
    refine gj_ishr C dX3_bits_13 ?_
    refine gj_iconst (v := 1) C dX3_bits_14 rfl ?_
    refine gj_iand C dX3_bits_15 ?_
    refine gj_iadd C dX3_bits_16 ?_
    refine gj_topi (fun x2 ex2 => ?_)
    have hw := hw x2 ex2
    refine gj_istore_n (lc' := [(1, .int x2), (0, .int p0), (2, .int v2)]) C dX3_bits_17 (Nat.le_of_ble_eq_true rfl) rfl ?_
    obtain ⟨x3, ex3⟩ : ∃ x3 : Int32, x3 = v2 + 1 := ⟨_, rfl⟩
    have hw := hw x3 ex3
    refine gj_iinc (lc' := [(2, .int x3), (1, .int x2), (0, .int p0)]) (w := 1) (v := x3) C dX3_bits_18 2 rfl rfl ex3.symm (Nat.le_of_ble_eq_true rfl) rfl ?_
    refine gj_goto (tgt := 4) C dX3_bits_21 rfl ?_
    refine gj_sub (lc' := [(0, .int p0), (1, .int x2), (2, .int x3)]) [2, 1, 0] rfl ?_
    exact hX4 _ _ _ _ hw

theorem wq_X3_bits_4 {g : Gm} {d : TD} {t : Nat} (B : BdT g d prog_11_method_6_code 3 (some .int) 0 0) (p0 : Int32) (Φ : Int32 → (Nat → Nat → Int32) → Int64 → Prop) (v1 : Int32) (v2 : Int32) (J : Nat → Nat → Int32) (lw : Int64) (hw : wl_X3_bits_4 p0 Φ v1 v2 J lw) : GJ g 3 (TP d t J lw (gs g).heap) 0 (TQ g d t (ansI Φ)) 4 [(0, .int p0), (1, .int v1), (2, .int v2)] [] :=
  hw (fun v1 v2 J lw => GJ g 3 (TP d t J lw (gs g).heap) 0 (TQ g d t (ansI Φ)) 4 [(0, .int p0), (1, .int v1), (2, .int v2)] []) (fun v1 v2 J lw h => wk_X3_bits_4 B p0 Φ (fun v1 v2 J lw => GJ g 3 (TP d t J lw (gs g).heap) 0 (TQ g d t (ansI Φ)) 4 [(0, .int p0), (1, .int v1), (2, .int v2)] []) (fun v1 v2 J lw h => h) v1 v2 J lw h)
def wp_X3_bits (p0 : Int32) (Φ : Int32 → (Nat → Nat → Int32) → Int64 → Prop) (J : Nat → Nat → Int32) (lw : Int64) : Prop :=
wl_X3_bits_4 p0 Φ 0 0 J lw
theorem wk_X3_bits {g : Gm} {d : TD} {t : Nat} (B : BdT g d prog_11_method_6_code 3 (some .int) 0 0) (p0 : Int32) (Φ : Int32 → (Nat → Nat → Int32) → Int64 → Prop) (J : Nat → Nat → Int32) (lw : Int64) (hw : wp_X3_bits p0 Φ J lw) : GJ g 3 (TP d t J lw (gs g).heap) 0 (TQ g d t (ansI Φ)) 0 [(0, .int p0)] [] := by
  unfold wp_X3_bits at hw
  have C := B.1
  have hW := B.2.1
  refine gj_iconst (v := 0) C dX3_bits_0 rfl ?_
  refine gj_istore_n (lc' := [(1, .int 0), (0, .int p0)]) C dX3_bits_1 (Nat.le_of_ble_eq_true rfl) rfl ?_
  refine gj_iconst (v := 0) C dX3_bits_2 rfl ?_
  refine gj_istore_n (lc' := [(2, .int 0), (1, .int 0), (0, .int p0)]) C dX3_bits_3 (Nat.le_of_ble_eq_true rfl) rfl ?_
  refine gj_sub (lc' := [(0, .int p0), (1, .int 0), (2, .int 0)]) [2, 1, 0] rfl ?_
  exact wq_X3_bits_4 B _ _ _ _ _ _ hw

theorem met_X3_bits (l : Launch) {d : TD} {t : Nat} {J : Nat → Nat → Int32} {lw : Int64} {p0 : Int32} {Φ : Int32 → (Nat → Nat → Int32) → Int64 → Prop} (hw : wp_X3_bits p0 Φ J lw) : MetT l yX3_bits prog_11_method_6_code 3 (some .int) 0 0 [.int p0] d t J lw (ansI Φ) :=
  mt_of (by decide +kernel) rfl (Nat.le_of_ble_eq_true rfl) (fun g _ B => wk_X3_bits B _ _ J lw hw)
theorem tc_X3_bits {g : Gm} {d : TD} {t : Nat} {cc : ByteArray} {nL : Nat} {ret : Option FieldType} {fr lo : Nat} (B : BdT g d cc nL ret fr lo) {J : Nat → Nat → Int32} {lw : Int64} {H0 : Heap} {Q : State → Prop} {pc : Nat} {lc : List (Nat × Value)} {rest : List Value} {p0 : Int32} {Φ : Int32 → (Nat → Nat → Int32) → Int64 → Prop} (hw : wp_X3_bits p0 Φ J lw) (hf : 1 ≤ fr) (hlo : 22 ≤ lo) (hrest : (rest.map fun v => v.category).sum ≤ 8) (dg : decode cc pc = .ok (.invokestatic 308, 3)) (k : ∀ (r : Int32) J' lw', Φ r J' lw' → GJ g nL (TP d t J' lw' H0) 0 Q (pc + 3) lc (.int r :: rest)) : GJ g nL (TP d t J lw H0) 0 Q pc lc (.int p0 :: rest) :=
  gt_callS (n := 1) (As := [.int p0]) B (met_X3_bits g.2.1 hw) (lw_S q1540 q1541 q97 q1542) ⟨by decide +kernel, by decide +kernel, by decide +kernel⟩ rfl hf hlo ⟨Nat.zero_le _, Nat.zero_le _⟩ rfl hrest dg (fun v J' lw' hp => by obtain ⟨r, rfl, hp⟩ := hp; exact k r J' lw' hp)
/-! toldOf(I)I -/
def wp_X3_toldOf (p0 : Int32) (Φ : Int32 → (Nat → Nat → Int32) → Int64 → Prop) (J : Nat → Nat → Int32) (lw : Int64) : Prop :=
(∀ x1 : Int32, x1 = (if 4 ≤ p0 then (p0 + 6) else p0) → Φ x1 J lw)
theorem wk_X3_toldOf {g : Gm} {d : TD} {t : Nat} (B : BdT g d prog_11_method_42_code 1 (some .int) 0 0) (p0 : Int32) (Φ : Int32 → (Nat → Nat → Int32) → Int64 → Prop) (J : Nat → Nat → Int32) (lw : Int64) (hw : wp_X3_toldOf p0 Φ J lw) : GJ g 1 (TP d t J lw (gs g).heap) 0 (TQ g d t (ansI Φ)) 0 [(0, .int p0)] [] := by
  unfold wp_X3_toldOf at hw
  have C := B.1
  have hW := B.2.1
  refine gj_iload_n C dX3_toldOf_0 0 rfl ?_
  refine gj_iconst (v := 4) C dX3_toldOf_1 rfl ?_
  have key : ∀ x1 : Int32, x1 = (if 4 ≤ p0 then (p0 + 6) else p0) → GJ g 1 (TP d t J lw (gs g).heap) 0 (TQ g d t (ansI Φ)) 13 [(0, .int p0)] [.int x1] → GJ g 1 (TP d t J lw (gs g).heap) 0 (TQ g d t (ansI Φ)) 2 [(0, .int p0)] [.int 4, .int p0] := by
    intro x1 ex1 kk
    refine gj_icmp_ge (tgt := 9) C dX3_toldOf_2 rfl (fun c2 => ?_) (fun c2 => ?_)
    · refine gj_iload_n C dX3_toldOf_9 0 rfl ?_
      refine gj_bipush (v := 6) C dX3_toldOf_10 rfl ?_
      refine gj_iadd C dX3_toldOf_12 ?_
      rw [if_pos c2] at ex1
      subst ex1
      exact kk
    · refine gj_iload_n C dX3_toldOf_5 0 rfl ?_
      refine gj_goto (tgt := 13) C dX3_toldOf_6 rfl ?_
      rw [if_neg c2] at ex1
      subst ex1
      exact kk
  obtain ⟨x1, ex1⟩ : ∃ x1 : Int32, x1 = (if 4 ≤ p0 then (p0 + 6) else p0) := ⟨_, rfl⟩
  refine key x1 ex1 ?_
  have hw := hw x1 ex1
  clear key
  exact gt_iret B hw dX3_toldOf_13

theorem met_X3_toldOf (l : Launch) {d : TD} {t : Nat} {J : Nat → Nat → Int32} {lw : Int64} {p0 : Int32} {Φ : Int32 → (Nat → Nat → Int32) → Int64 → Prop} (hw : wp_X3_toldOf p0 Φ J lw) : MetT l yX3_toldOf prog_11_method_42_code 1 (some .int) 0 0 [.int p0] d t J lw (ansI Φ) :=
  mt_of (by decide +kernel) rfl (Nat.le_of_ble_eq_true rfl) (fun g _ B => wk_X3_toldOf B _ _ J lw hw)
theorem tc_X3_toldOf {g : Gm} {d : TD} {t : Nat} {cc : ByteArray} {nL : Nat} {ret : Option FieldType} {fr lo : Nat} (B : BdT g d cc nL ret fr lo) {J : Nat → Nat → Int32} {lw : Int64} {H0 : Heap} {Q : State → Prop} {pc : Nat} {lc : List (Nat × Value)} {rest : List Value} {p0 : Int32} {Φ : Int32 → (Nat → Nat → Int32) → Int64 → Prop} (hw : wp_X3_toldOf p0 Φ J lw) (hf : 1 ≤ fr) (hlo : 20 ≤ lo) (hrest : (rest.map fun v => v.category).sum ≤ 8) (dg : decode cc pc = .ok (.invokestatic 311, 3)) (k : ∀ (r : Int32) J' lw', Φ r J' lw' → GJ g nL (TP d t J' lw' H0) 0 Q (pc + 3) lc (.int r :: rest)) : GJ g nL (TP d t J lw H0) 0 Q pc lc (.int p0 :: rest) :=
  gt_callS (n := 1) (As := [.int p0]) B (met_X3_toldOf g.2.1 hw) (lw_S q1543 q1544 q97 q1545) ⟨by decide +kernel, by decide +kernel, by decide +kernel⟩ rfl hf hlo ⟨Nat.zero_le _, Nat.zero_le _⟩ rfl hrest dg (fun v J' lw' hp => by obtain ⟨r, rfl, hp⟩ := hp; exact k r J' lw' hp)
/-! may(III)I -/
def wf_X3_may_92 (p1 : Int32) (p2 : Int32) (p3 : Int32) (Φ : Int32 → (Nat → Nat → Int32) → Int64 → Prop) (X92 : Int32 → Int32 → (Nat → Nat → Int32) → Int64 → Prop) (v4 : Int32) (v5 : Int32) (J : Nat → Nat → Int32) (lw : Int64) : Prop :=
(if p3 ≤ v5 then (wp_X3_lowest v4 (fun r31 J29 l30 => (wp_X3_toldOf r31 (fun r34 J32 l33 => Φ r34 J32 l33) J29 l30)) J lw) else (∀ x35 : Int32, x35 = (v4 &&& (v4 - 1)) → (∀ x36 : Int32, x36 = v5 + 1 → X92 x35 x36 J lw)))
def wl_X3_may_92 (p1 : Int32) (p2 : Int32) (p3 : Int32) (Φ : Int32 → (Nat → Nat → Int32) → Int64 → Prop) (v4 : Int32) (v5 : Int32) (J : Nat → Nat → Int32) (lw : Int64) : Prop := ∀ X92 : Int32 → Int32 → (Nat → Nat → Int32) → Int64 → Prop, (∀ v4 v5 J lw, wf_X3_may_92 p1 p2 p3 Φ X92 v4 v5 J lw → X92 v4 v5 J lw) → X92 v4 v5 J lw
theorem wk_X3_may_92 {g : Gm} {d : TD} {t : Nat} (B : BdT g d prog_11_method_43_code 6 (some .int) 2 43) (p1 : Int32) (p2 : Int32) (p3 : Int32) (Φ : Int32 → (Nat → Nat → Int32) → Int64 → Prop) (X92 : Int32 → Int32 → (Nat → Nat → Int32) → Int64 → Prop) (hX92 : ∀ v4 v5 J lw, X92 v4 v5 J lw → GJ g 6 (TP d t J lw (gs g).heap) 0 (TQ g d t (ansI Φ)) 92 [(3, .int p3), (4, .int v4), (5, .int v5)] []) (v4 : Int32) (v5 : Int32) (J : Nat → Nat → Int32) (lw : Int64) (hw : wf_X3_may_92 p1 p2 p3 Φ X92 v4 v5 J lw) : GJ g 6 (TP d t J lw (gs g).heap) 0 (TQ g d t (ansI Φ)) 92 [(3, .int p3), (4, .int v4), (5, .int v5)] [] := by
  unfold wf_X3_may_92 at hw
  have C := B.1
  have hW := B.2.1
  refine gj_iload C dX3_may_92 2 rfl ?_
  refine gj_iload_n C dX3_may_94 0 rfl ?_
  refine gj_icmp_ge (tgt := 113) C dX3_may_95 rfl (fun c28 => ?_) (fun c28 => ?_)
  · have hw := it_t hw c28
    refine gj_iload C dX3_may_113 1 rfl ?_
    refine tc_X3_lowest B hw (Nat.le_of_ble_eq_true rfl) (Nat.le_of_ble_eq_true rfl) (Nat.le_of_ble_eq_true rfl) dX3_may_115 (fun r31 J29 l30 hw => ?_)
    refine tc_X3_toldOf B hw (Nat.le_of_ble_eq_true rfl) (Nat.le_of_ble_eq_true rfl) (Nat.le_of_ble_eq_true rfl) dX3_may_118 (fun r34 J32 l33 hw => ?_)
    exact gt_iret B hw dX3_may_121
  · have hw := it_f hw c28
    refine gj_iload C dX3_may_98 1 rfl ?_
    refine gj_iload C dX3_may_100 1 rfl ?_
    refine gj_iconst (v := 1) C dX3_may_102 rfl ?_
    refine gj_isub C dX3_may_103 ?_
    refine gj_iand C dX3_may_104 ?_
    refine gj_topi (fun x35 ex35 => ?_)
    have hw := hw x35 ex35
    refine gj_istore (lc' := [(4, .int x35), (3, .int p3), (5, .int v5)]) C dX3_may_105 (Nat.le_of_ble_eq_true rfl) rfl ?_
    obtain ⟨x36, ex36⟩ : ∃ x36 : Int32, x36 = v5 + 1 := ⟨_, rfl⟩
    have hw := hw x36 ex36
    refine gj_iinc (lc' := [(5, .int x36), (4, .int x35), (3, .int p3)]) (w := 1) (v := x36) C dX3_may_107 2 rfl rfl ex36.symm (Nat.le_of_ble_eq_true rfl) rfl ?_
    refine gj_goto (tgt := 92) C dX3_may_110 rfl ?_
    refine gj_sub (lc' := [(3, .int p3), (4, .int x35), (5, .int x36)]) [2, 1, 0] rfl ?_
    exact hX92 _ _ _ _ hw

theorem wq_X3_may_92 {g : Gm} {d : TD} {t : Nat} (B : BdT g d prog_11_method_43_code 6 (some .int) 2 43) (p1 : Int32) (p2 : Int32) (p3 : Int32) (Φ : Int32 → (Nat → Nat → Int32) → Int64 → Prop) (v4 : Int32) (v5 : Int32) (J : Nat → Nat → Int32) (lw : Int64) (hw : wl_X3_may_92 p1 p2 p3 Φ v4 v5 J lw) : GJ g 6 (TP d t J lw (gs g).heap) 0 (TQ g d t (ansI Φ)) 92 [(3, .int p3), (4, .int v4), (5, .int v5)] [] :=
  hw (fun v4 v5 J lw => GJ g 6 (TP d t J lw (gs g).heap) 0 (TQ g d t (ansI Φ)) 92 [(3, .int p3), (4, .int v4), (5, .int v5)] []) (fun v4 v5 J lw h => wk_X3_may_92 B p1 p2 p3 Φ (fun v4 v5 J lw => GJ g 6 (TP d t J lw (gs g).heap) 0 (TQ g d t (ansI Φ)) 92 [(3, .int p3), (4, .int v4), (5, .int v5)] []) (fun v4 v5 J lw h => h) v4 v5 J lw h)
def wp_X3_may (p1 : Int32) (p2 : Int32) (p3 : Int32) (Φ : Int32 → (Nat → Nat → Int32) → Int64 → Prop) (J : Nat → Nat → Int32) (lw : Int64) : Prop :=
(∀ J1 : Nat → Nat → Int32, J1 = u2 J 0 0 0 → (wp_X3_isLodger p1 (fun r4 J2 l3 => (if r4 = 0 then Φ 0 J2 l3 else (wp_X3_isHour p2 (fun r8 J6 l7 => (if r8 = 0 then Φ 0 J6 l7 else (∀ x10 : Int32, x10 = (if p3 < (-1) then 0 else 1) → (wp_X3_right x10 1 (fun r14 J12 l13 => (if r14 = 0 then Φ 0 J12 l13 else (vp_in ((24 * p1) + p2) (tln 11) ∧ (∀ x17 : Int32, x17 = (J12 11 (Int32.toNatClampNeg ((24 * p1) + p2))) → (if p3 = (-1) then (wp_X3_bits x17 (fun r39 J37 l38 => Φ r39 J37 l38) J12 l13) else (wp_X3_bits x17 (fun r21 J19 l20 => (∀ x22 : Int32, x22 = (if r21 ≤ p3 then 0 else 1) → (wp_X3_right x22 1 (fun r26 J24 l25 => (if r26 = 0 then Φ 0 J24 l25 else wl_X3_may_92 p1 p2 p3 Φ x17 0 J24 l25)) J19 l20))) J12 l13)))))) J6 l7)))) J2 l3))) J1 lw))
theorem wk_X3_may {g : Gm} {d : TD} {t : Nat} (B : BdT g d prog_11_method_43_code 6 (some .int) 2 43) (p1 : Int32) (p2 : Int32) (p3 : Int32) (Φ : Int32 → (Nat → Nat → Int32) → Int64 → Prop) (J : Nat → Nat → Int32) (lw : Int64) (hw : wp_X3_may p1 p2 p3 Φ J lw) : GJ g 6 (TP d t J lw (gs g).heap) 0 (TQ g d t (ansI Φ)) 0 [(0, rv (t + 1)), (1, .int p1), (2, .int p2), (3, .int p3)] [] := by
  unfold wp_X3_may at hw
  have C := B.1
  have hW := B.2.1
  refine gj_aload_n C dX3_may_0 0 rfl ?_
  refine gj_iconst (v := 0) C dX3_may_1 rfl ?_
  refine tp134 C hW dX3_may_2 ?_
  refine gt_nmJ (fun J1 eJ1 => ?_)
  have hw := hw J1 eJ1
  refine gj_aload_n C dX3_may_5 0 rfl ?_
  refine gj_iload_n C dX3_may_6 1 rfl ?_
  refine tc_X3_isLodger B hw (Nat.le_of_ble_eq_true rfl) (Nat.le_of_ble_eq_true rfl) (Nat.le_of_ble_eq_true rfl) dX3_may_7 (fun r4 J2 l3 br4 hw => ?_)
  refine gj_if_eq (tgt := 39) C dX3_may_10 rfl (fun c5 => ?_) (fun c5 => ?_)
  · have hw := it_t hw c5
    refine gj_iconst (v := 0) C dX3_may_39 rfl ?_
    exact gt_iret B hw dX3_may_40
  · have hw := it_f hw c5
    refine gj_aload_n C dX3_may_13 0 rfl ?_
    refine gj_iload_n C dX3_may_14 2 rfl ?_
    refine tc_X3_isHour B hw (Nat.le_of_ble_eq_true rfl) (Nat.le_of_ble_eq_true rfl) (Nat.le_of_ble_eq_true rfl) dX3_may_15 (fun r8 J6 l7 br8 hw => ?_)
    refine gj_if_eq (tgt := 39) C dX3_may_18 rfl (fun c9 => ?_) (fun c9 => ?_)
    · have hw := it_t hw c9
      refine gj_iconst (v := 0) C dX3_may_39 rfl ?_
      exact gt_iret B hw dX3_may_40
    · have hw := it_f hw c9
      refine gj_aload_n C dX3_may_21 0 rfl ?_
      refine gj_iload_n C dX3_may_22 3 rfl ?_
      refine gj_iconst (v := (-1)) C dX3_may_23 rfl ?_
      have key : ∀ x10 : Int32, x10 = (if p3 < (-1) then 0 else 1) → GJ g 6 (TP d t J6 l7 (gs g).heap) 0 (TQ g d t (ansI Φ)) 32 [(0, rv (t + 1)), (1, .int p1), (2, .int p2), (3, .int p3)] [.int x10, rv (t + 1)] → GJ g 6 (TP d t J6 l7 (gs g).heap) 0 (TQ g d t (ansI Φ)) 24 [(0, rv (t + 1)), (1, .int p1), (2, .int p2), (3, .int p3)] [.int (-1), .int p3, rv (t + 1)] := by
        intro x10 ex10 kk
        refine gj_icmp_lt (tgt := 31) C dX3_may_24 rfl (fun c11 => ?_) (fun c11 => ?_)
        · refine gj_iconst (v := 0) C dX3_may_31 rfl ?_
          rw [if_pos c11] at ex10
          subst ex10
          exact kk
        · refine gj_iconst (v := 1) C dX3_may_27 rfl ?_
          refine gj_goto (tgt := 32) C dX3_may_28 rfl ?_
          rw [if_neg c11] at ex10
          subst ex10
          exact kk
      obtain ⟨x10, ex10⟩ : ∃ x10 : Int32, x10 = (if p3 < (-1) then 0 else 1) := ⟨_, rfl⟩
      have bx10 : x10 = 0 ∨ x10 = 1 := by rw [ex10]; (repeat' split) <;> simp
      refine key x10 ex10 ?_
      have hw := hw x10 ex10
      clear key
      refine gj_iconst (v := 1) C dX3_may_32 rfl ?_
      refine tc_X3_right B hw (Nat.le_of_ble_eq_true rfl) (Nat.le_of_ble_eq_true rfl) (Nat.le_of_ble_eq_true rfl) dX3_may_33 (fun r14 J12 l13 br14 hw => ?_)
      refine gj_if_ne (tgt := 41) C dX3_may_36 rfl (fun c15 => ?_) (fun c15 => ?_)
      · have hw := it_f hw c15
        refine gj_aload_n C dX3_may_41 0 rfl ?_
        refine tg28 C hW dX3_may_42 ?_
        refine gj_bipush (v := 24) C dX3_may_45 rfl ?_
        refine gj_iload_n C dX3_may_47 1 rfl ?_
        refine gj_imul C dX3_may_48 ?_
        refine gj_iload_n C dX3_may_49 2 rfl ?_
        refine gj_iadd C dX3_may_50 ?_
        obtain ⟨h16, hw⟩ := hw
        refine gt_iald C hW (by decide) h16 dX3_may_51 ?_
        refine gj_topi (fun x17 ex17 => ?_)
        have hw := hw x17 ex17
        refine gj_istore (lc' := [(4, .int x17), (0, rv (t + 1)), (1, .int p1), (2, .int p2), (3, .int p3)]) C dX3_may_52 (Nat.le_of_ble_eq_true rfl) rfl ?_
        refine gj_iload_n C dX3_may_54 4 rfl ?_
        refine gj_iconst (v := (-1)) C dX3_may_55 rfl ?_
        refine gj_icmp_ne (tgt := 65) C dX3_may_56 rfl (fun c18 => ?_) (fun c18 => ?_)
        · have hw := it_f hw c18
          refine gj_aload_n C dX3_may_65 1 rfl ?_
          refine gj_iload_n C dX3_may_66 4 rfl ?_
          refine gj_iload C dX3_may_67 0 rfl ?_
          refine tc_X3_bits B hw (Nat.le_of_ble_eq_true rfl) (Nat.le_of_ble_eq_true rfl) (Nat.le_of_ble_eq_true rfl) dX3_may_69 (fun r21 J19 l20 hw => ?_)
          have key : ∀ x22 : Int32, x22 = (if r21 ≤ p3 then 0 else 1) → GJ g 6 (TP d t J19 l20 (gs g).heap) 0 (TQ g d t (ansI Φ)) 80 [(4, .int x17), (0, rv (t + 1)), (1, .int p1), (2, .int p2), (3, .int p3)] [.int x22, rv (t + 1)] → GJ g 6 (TP d t J19 l20 (gs g).heap) 0 (TQ g d t (ansI Φ)) 72 [(4, .int x17), (0, rv (t + 1)), (1, .int p1), (2, .int p2), (3, .int p3)] [.int r21, .int p3, rv (t + 1)] := by
            intro x22 ex22 kk
            refine gj_icmp_ge (tgt := 79) C dX3_may_72 rfl (fun c23 => ?_) (fun c23 => ?_)
            · refine gj_iconst (v := 0) C dX3_may_79 rfl ?_
              rw [if_pos c23] at ex22
              subst ex22
              exact kk
            · refine gj_iconst (v := 1) C dX3_may_75 rfl ?_
              refine gj_goto (tgt := 80) C dX3_may_76 rfl ?_
              rw [if_neg c23] at ex22
              subst ex22
              exact kk
          obtain ⟨x22, ex22⟩ : ∃ x22 : Int32, x22 = (if r21 ≤ p3 then 0 else 1) := ⟨_, rfl⟩
          have bx22 : x22 = 0 ∨ x22 = 1 := by rw [ex22]; (repeat' split) <;> simp
          refine key x22 ex22 ?_
          have hw := hw x22 ex22
          clear key
          refine gj_iconst (v := 1) C dX3_may_80 rfl ?_
          refine tc_X3_right B hw (Nat.le_of_ble_eq_true rfl) (Nat.le_of_ble_eq_true rfl) (Nat.le_of_ble_eq_true rfl) dX3_may_81 (fun r26 J24 l25 br26 hw => ?_)
          refine gj_if_ne (tgt := 89) C dX3_may_84 rfl (fun c27 => ?_) (fun c27 => ?_)
          · have hw := it_f hw c27
            refine gj_iconst (v := 0) C dX3_may_89 rfl ?_
            refine gj_istore (lc' := [(5, .int 0), (4, .int x17), (0, rv (t + 1)), (1, .int p1), (2, .int p2), (3, .int p3)]) C dX3_may_90 (Nat.le_of_ble_eq_true rfl) rfl ?_
            refine gj_sub (lc' := [(3, .int p3), (4, .int x17), (5, .int 0)]) [5, 1, 0] rfl ?_
            exact wq_X3_may_92 B _ _ _ _ _ _ _ _ hw
          · have hw := it_t hw c27
            refine gj_iconst (v := 0) C dX3_may_87 rfl ?_
            exact gt_iret B hw dX3_may_88
        · have hw := it_t hw c18
          refine gj_iload C dX3_may_59 0 rfl ?_
          refine tc_X3_bits B hw (Nat.le_of_ble_eq_true rfl) (Nat.le_of_ble_eq_true rfl) (Nat.le_of_ble_eq_true rfl) dX3_may_61 (fun r39 J37 l38 hw => ?_)
          exact gt_iret B hw dX3_may_64
      · have hw := it_t hw c15
        refine gj_iconst (v := 0) C dX3_may_39 rfl ?_
        exact gt_iret B hw dX3_may_40

theorem met_X3_may (l : Launch) {d : TD} {t : Nat} {J : Nat → Nat → Int32} {lw : Int64} {p1 : Int32} {p2 : Int32} {p3 : Int32} {Φ : Int32 → (Nat → Nat → Int32) → Int64 → Prop} (hw : wp_X3_may p1 p2 p3 Φ J lw) : MetT l yX3_may prog_11_method_43_code 6 (some .int) 2 43 [.ref t, .int p1, .int p2, .int p3] d t J lw (ansI Φ) :=
  mt_of (by decide +kernel) rfl (Nat.le_of_ble_eq_true rfl) (fun g _ B => wk_X3_may B _ _ _ _ J lw hw)
/-! lawOf(I)I -/
def wp_X3_lawOf (p1 : Int32) (Φ : Int32 → (Nat → Nat → Int32) → Int64 → Prop) (J : Nat → Nat → Int32) (lw : Int64) : Prop :=
(∀ x1 : Int32, x1 = (if 4 ≤ p1 then 0 else p1) → (vp_in x1 (tln 10) ∧ Φ (J 10 (Int32.toNatClampNeg x1)) J lw))
theorem wk_X3_lawOf {g : Gm} {d : TD} {t : Nat} (B : BdT g d prog_11_method_39_code 2 (some .int) 0 0) (p1 : Int32) (Φ : Int32 → (Nat → Nat → Int32) → Int64 → Prop) (J : Nat → Nat → Int32) (lw : Int64) (hw : wp_X3_lawOf p1 Φ J lw) : GJ g 2 (TP d t J lw (gs g).heap) 0 (TQ g d t (ansI Φ)) 0 [(0, rv (t + 1)), (1, .int p1)] [] := by
  unfold wp_X3_lawOf at hw
  have C := B.1
  have hW := B.2.1
  refine gj_aload_n C dX3_lawOf_0 0 rfl ?_
  refine tg25 C hW dX3_lawOf_1 ?_
  refine gj_iload_n C dX3_lawOf_4 1 rfl ?_
  refine gj_iconst (v := 4) C dX3_lawOf_5 rfl ?_
  have key : ∀ x1 : Int32, x1 = (if 4 ≤ p1 then 0 else p1) → GJ g 2 (TP d t J lw (gs g).heap) 0 (TQ g d t (ansI Φ)) 14 [(0, rv (t + 1)), (1, .int p1)] [.int x1, rv (ta t 10)] → GJ g 2 (TP d t J lw (gs g).heap) 0 (TQ g d t (ansI Φ)) 6 [(0, rv (t + 1)), (1, .int p1)] [.int 4, .int p1, rv (ta t 10)] := by
    intro x1 ex1 kk
    refine gj_icmp_ge (tgt := 13) C dX3_lawOf_6 rfl (fun c2 => ?_) (fun c2 => ?_)
    · refine gj_iconst (v := 0) C dX3_lawOf_13 rfl ?_
      rw [if_pos c2] at ex1
      subst ex1
      exact kk
    · refine gj_iload_n C dX3_lawOf_9 1 rfl ?_
      refine gj_goto (tgt := 14) C dX3_lawOf_10 rfl ?_
      rw [if_neg c2] at ex1
      subst ex1
      exact kk
  obtain ⟨x1, ex1⟩ : ∃ x1 : Int32, x1 = (if 4 ≤ p1 then 0 else p1) := ⟨_, rfl⟩
  refine key x1 ex1 ?_
  have hw := hw x1 ex1
  clear key
  obtain ⟨h3, hw⟩ := hw
  refine gt_iald C hW (by decide) h3 dX3_lawOf_14 ?_
  exact gt_iret B hw dX3_lawOf_15

theorem met_X3_lawOf (l : Launch) {d : TD} {t : Nat} {J : Nat → Nat → Int32} {lw : Int64} {p1 : Int32} {Φ : Int32 → (Nat → Nat → Int32) → Int64 → Prop} (hw : wp_X3_lawOf p1 Φ J lw) : MetT l yX3_lawOf prog_11_method_39_code 2 (some .int) 0 0 [.ref t, .int p1] d t J lw (ansI Φ) :=
  mt_of (by decide +kernel) rfl (Nat.le_of_ble_eq_true rfl) (fun g _ B => wk_X3_lawOf B _ _ J lw hw)
theorem tc_X3_lawOf {g : Gm} {d : TD} {t : Nat} {cc : ByteArray} {nL : Nat} {ret : Option FieldType} {fr lo : Nat} (B : BdT g d cc nL ret fr lo) {J : Nat → Nat → Int32} {lw : Int64} {H0 : Heap} {Q : State → Prop} {pc : Nat} {lc : List (Nat × Value)} {rest : List Value} {p1 : Int32} {Φ : Int32 → (Nat → Nat → Int32) → Int64 → Prop} (hw : wp_X3_lawOf p1 Φ J lw) (hf : 1 ≤ fr) (hlo : 21 ≤ lo) (hrest : (rest.map fun v => v.category).sum ≤ 8) (dg : decode cc pc = .ok (.invokevirtual 296, 3)) (k : ∀ (r : Int32) J' lw', Φ r J' lw' → GJ g nL (TP d t J' lw' H0) 0 Q (pc + 3) lc (.int r :: rest)) : GJ g nL (TP d t J lw H0) 0 Q pc lc (.int p1 :: rv (t + 1) :: rest) :=
  gt_callV (n := 1) (As := [.int p1]) B (met_X3_lawOf g.2.1 hw) (lw_V q1554 q1556 qs62 q97 q1557) ⟨rfl, by decide +kernel, by decide +kernel, by decide +kernel⟩ rfl hf hlo ⟨Nat.zero_le _, Nat.zero_le _⟩ rfl hrest dg (fun v J' lw' hp => by obtain ⟨r, rfl, hp⟩ := hp; exact k r J' lw' hp)
/-! both(I)I -/
def wp_X3_both (p1 : Int32) (Φ : Int32 → (Nat → Nat → Int32) → Int64 → Prop) (J : Nat → Nat → Int32) (lw : Int64) : Prop :=
(wp_X3_has p1 1 (fun r3 J1 l2 => (∀ x4 : Int32, x4 = (if r3 ≤ 0 then 0 else 1) → (wp_X3_has p1 2 (fun r8 J6 l7 => (∀ x9 : Int32, x9 = (if r8 ≤ 0 then 0 else 2) → Φ (x4 ||| x9) J6 l7)) J1 l2))) J lw)
theorem wk_X3_both {g : Gm} {d : TD} {t : Nat} (B : BdT g d prog_11_method_38_code 2 (some .int) 1 24) (p1 : Int32) (Φ : Int32 → (Nat → Nat → Int32) → Int64 → Prop) (J : Nat → Nat → Int32) (lw : Int64) (hw : wp_X3_both p1 Φ J lw) : GJ g 2 (TP d t J lw (gs g).heap) 0 (TQ g d t (ansI Φ)) 0 [(0, rv (t + 1)), (1, .int p1)] [] := by
  unfold wp_X3_both at hw
  have C := B.1
  have hW := B.2.1
  refine gj_aload_n C dX3_both_0 0 rfl ?_
  refine gj_iload_n C dX3_both_1 1 rfl ?_
  refine gj_iconst (v := 1) C dX3_both_2 rfl ?_
  refine tc_X3_has B hw (Nat.le_of_ble_eq_true rfl) (Nat.le_of_ble_eq_true rfl) (Nat.le_of_ble_eq_true rfl) dX3_both_3 (fun r3 J1 l2 hw => ?_)
  have key : ∀ x4 : Int32, x4 = (if r3 ≤ 0 then 0 else 1) → GJ g 2 (TP d t J1 l2 (gs g).heap) 0 (TQ g d t (ansI Φ)) 14 [(0, rv (t + 1)), (1, .int p1)] [.int x4] → GJ g 2 (TP d t J1 l2 (gs g).heap) 0 (TQ g d t (ansI Φ)) 6 [(0, rv (t + 1)), (1, .int p1)] [.int r3] := by
    intro x4 ex4 kk
    refine gj_if_le (tgt := 13) C dX3_both_6 rfl (fun c5 => ?_) (fun c5 => ?_)
    · refine gj_iconst (v := 0) C dX3_both_13 rfl ?_
      rw [if_pos c5] at ex4
      subst ex4
      exact kk
    · refine gj_iconst (v := 1) C dX3_both_9 rfl ?_
      refine gj_goto (tgt := 14) C dX3_both_10 rfl ?_
      rw [if_neg c5] at ex4
      subst ex4
      exact kk
  obtain ⟨x4, ex4⟩ : ∃ x4 : Int32, x4 = (if r3 ≤ 0 then 0 else 1) := ⟨_, rfl⟩
  have bx4 : x4 = 0 ∨ x4 = 1 := by rw [ex4]; (repeat' split) <;> simp
  refine key x4 ex4 ?_
  have hw := hw x4 ex4
  clear key
  refine gj_aload_n C dX3_both_14 0 rfl ?_
  refine gj_iload_n C dX3_both_15 1 rfl ?_
  refine gj_iconst (v := 2) C dX3_both_16 rfl ?_
  refine tc_X3_has B hw (Nat.le_of_ble_eq_true rfl) (Nat.le_of_ble_eq_true rfl) (Nat.le_of_ble_eq_true rfl) dX3_both_17 (fun r8 J6 l7 hw => ?_)
  have key : ∀ x9 : Int32, x9 = (if r8 ≤ 0 then 0 else 2) → GJ g 2 (TP d t J6 l7 (gs g).heap) 0 (TQ g d t (ansI Φ)) 28 [(0, rv (t + 1)), (1, .int p1)] [.int x9, .int x4] → GJ g 2 (TP d t J6 l7 (gs g).heap) 0 (TQ g d t (ansI Φ)) 20 [(0, rv (t + 1)), (1, .int p1)] [.int r8, .int x4] := by
    intro x9 ex9 kk
    refine gj_if_le (tgt := 27) C dX3_both_20 rfl (fun c10 => ?_) (fun c10 => ?_)
    · refine gj_iconst (v := 0) C dX3_both_27 rfl ?_
      rw [if_pos c10] at ex9
      subst ex9
      exact kk
    · refine gj_iconst (v := 2) C dX3_both_23 rfl ?_
      refine gj_goto (tgt := 28) C dX3_both_24 rfl ?_
      rw [if_neg c10] at ex9
      subst ex9
      exact kk
  obtain ⟨x9, ex9⟩ : ∃ x9 : Int32, x9 = (if r8 ≤ 0 then 0 else 2) := ⟨_, rfl⟩
  refine key x9 ex9 ?_
  have hw := hw x9 ex9
  clear key
  refine gj_ior C dX3_both_28 ?_
  exact gt_iret B hw dX3_both_29

theorem met_X3_both (l : Launch) {d : TD} {t : Nat} {J : Nat → Nat → Int32} {lw : Int64} {p1 : Int32} {Φ : Int32 → (Nat → Nat → Int32) → Int64 → Prop} (hw : wp_X3_both p1 Φ J lw) : MetT l yX3_both prog_11_method_38_code 2 (some .int) 1 24 [.ref t, .int p1] d t J lw (ansI Φ) :=
  mt_of (by decide +kernel) rfl (Nat.le_of_ble_eq_true rfl) (fun g _ B => wk_X3_both B _ _ J lw hw)
theorem tc_X3_both {g : Gm} {d : TD} {t : Nat} {cc : ByteArray} {nL : Nat} {ret : Option FieldType} {fr lo : Nat} (B : BdT g d cc nL ret fr lo) {J : Nat → Nat → Int32} {lw : Int64} {H0 : Heap} {Q : State → Prop} {pc : Nat} {lc : List (Nat × Value)} {rest : List Value} {p1 : Int32} {Φ : Int32 → (Nat → Nat → Int32) → Int64 → Prop} (hw : wp_X3_both p1 Φ J lw) (hf : 2 ≤ fr) (hlo : 45 ≤ lo) (hrest : (rest.map fun v => v.category).sum ≤ 8) (dg : decode cc pc = .ok (.invokevirtual 299, 3)) (k : ∀ (r : Int32) J' lw', Φ r J' lw' → GJ g nL (TP d t J' lw' H0) 0 Q (pc + 3) lc (.int r :: rest)) : GJ g nL (TP d t J lw H0) 0 Q pc lc (.int p1 :: rv (t + 1) :: rest) :=
  gt_callV (n := 1) (As := [.int p1]) B (met_X3_both g.2.1 hw) (lw_V q1558 q1560 qs63 q97 q1561) ⟨rfl, by decide +kernel, by decide +kernel, by decide +kernel⟩ rfl hf hlo ⟨Nat.zero_le _, Nat.zero_le _⟩ rfl hrest dg (fun v J' lw' hp => by obtain ⟨r, rfl, hp⟩ := hp; exact k r J' lw' hp)
/-! signOf(II)I -/
def wp_X3_signOf (p1 : Int32) (p2 : Int32) (Φ : Int32 → (Nat → Nat → Int32) → Int64 → Prop) (J : Nat → Nat → Int32) (lw : Int64) : Prop :=
(wp_X3_lawOf p2 (fun r3 J1 l2 => (wp_X3_both p1 (fun r6 J4 l5 => Φ (r3 &&& r6) J4 l5) J1 l2)) J lw)
theorem wk_X3_signOf {g : Gm} {d : TD} {t : Nat} (B : BdT g d prog_11_method_40_code 3 (some .int) 2 45) (p1 : Int32) (p2 : Int32) (Φ : Int32 → (Nat → Nat → Int32) → Int64 → Prop) (J : Nat → Nat → Int32) (lw : Int64) (hw : wp_X3_signOf p1 p2 Φ J lw) : GJ g 3 (TP d t J lw (gs g).heap) 0 (TQ g d t (ansI Φ)) 0 [(0, rv (t + 1)), (1, .int p1), (2, .int p2)] [] := by
  unfold wp_X3_signOf at hw
  have C := B.1
  have hW := B.2.1
  refine gj_aload_n C dX3_signOf_0 0 rfl ?_
  refine gj_iload_n C dX3_signOf_1 2 rfl ?_
  refine tc_X3_lawOf B hw (Nat.le_of_ble_eq_true rfl) (Nat.le_of_ble_eq_true rfl) (Nat.le_of_ble_eq_true rfl) dX3_signOf_2 (fun r3 J1 l2 hw => ?_)
  refine gj_aload_n C dX3_signOf_5 0 rfl ?_
  refine gj_iload_n C dX3_signOf_6 1 rfl ?_
  refine tc_X3_both B hw (Nat.le_of_ble_eq_true rfl) (Nat.le_of_ble_eq_true rfl) (Nat.le_of_ble_eq_true rfl) dX3_signOf_7 (fun r6 J4 l5 hw => ?_)
  refine gj_iand C dX3_signOf_10 ?_
  exact gt_iret B hw dX3_signOf_11

theorem met_X3_signOf (l : Launch) {d : TD} {t : Nat} {J : Nat → Nat → Int32} {lw : Int64} {p1 : Int32} {p2 : Int32} {Φ : Int32 → (Nat → Nat → Int32) → Int64 → Prop} (hw : wp_X3_signOf p1 p2 Φ J lw) : MetT l yX3_signOf prog_11_method_40_code 3 (some .int) 2 45 [.ref t, .int p1, .int p2] d t J lw (ansI Φ) :=
  mt_of (by decide +kernel) rfl (Nat.le_of_ble_eq_true rfl) (fun g _ B => wk_X3_signOf B _ _ _ J lw hw)
theorem tc_X3_signOf {g : Gm} {d : TD} {t : Nat} {cc : ByteArray} {nL : Nat} {ret : Option FieldType} {fr lo : Nat} (B : BdT g d cc nL ret fr lo) {J : Nat → Nat → Int32} {lw : Int64} {H0 : Heap} {Q : State → Prop} {pc : Nat} {lc : List (Nat × Value)} {rest : List Value} {p1 : Int32} {p2 : Int32} {Φ : Int32 → (Nat → Nat → Int32) → Int64 → Prop} (hw : wp_X3_signOf p1 p2 Φ J lw) (hf : 3 ≤ fr) (hlo : 67 ≤ lo) (hrest : (rest.map fun v => v.category).sum ≤ 8) (dg : decode cc pc = .ok (.invokevirtual 314, 3)) (k : ∀ (r : Int32) J' lw', Φ r J' lw' → GJ g nL (TP d t J' lw' H0) 0 Q (pc + 3) lc (.int r :: rest)) : GJ g nL (TP d t J lw H0) 0 Q pc lc (.int p2 :: .int p1 :: rv (t + 1) :: rest) :=
  gt_callV (n := 2) (As := [.int p1, .int p2]) B (met_X3_signOf g.2.1 hw) (lw_V q1550 q1552 qs61 q97 q1553) ⟨rfl, by decide +kernel, by decide +kernel, by decide +kernel⟩ rfl hf hlo ⟨Nat.zero_le _, Nat.zero_le _⟩ rfl hrest dg (fun v J' lw' hp => by obtain ⟨r, rfl, hp⟩ := hp; exact k r J' lw' hp)
/-! says(II)I -/
def wj_X3_says_58 (p1 : Int32) (p2 : Int32) (Φ : Int32 → (Nat → Nat → Int32) → Int64 → Prop) (s0 : Int32) (J : Nat → Nat → Int32) (lw : Int64) : Prop :=
(wp_X3_right s0 1 (fun r12 J10 l11 => (if r12 = 0 then Φ 0 J10 l11 else (∀ x14 : Int32, x14 = (if 4 ≤ p2 then (p2 - 6) else p2) → (wp_X3_signOf p1 x14 (fun r18 J16 l17 => Φ r18 J16 l17) J10 l11)))) J lw)
theorem wq_X3_says_58 {g : Gm} {d : TD} {t : Nat} (B : BdT g d prog_11_method_44_code 3 (some .int) 3 67) (p1 : Int32) (p2 : Int32) (Φ : Int32 → (Nat → Nat → Int32) → Int64 → Prop) (s0 : Int32) (J : Nat → Nat → Int32) (lw : Int64) (hw : wj_X3_says_58 p1 p2 Φ s0 J lw) : GJ g 3 (TP d t J lw (gs g).heap) 0 (TQ g d t (ansI Φ)) 58 [(0, rv (t + 1)), (1, .int p1), (2, .int p2)] [.int s0, rv (t + 1)] := by
  unfold wj_X3_says_58 at hw
  have C := B.1
  have hW := B.2.1
  refine gj_iconst (v := 1) C dX3_says_58 rfl ?_
  refine tc_X3_right B hw (Nat.le_of_ble_eq_true rfl) (Nat.le_of_ble_eq_true rfl) (Nat.le_of_ble_eq_true rfl) dX3_says_59 (fun r12 J10 l11 br12 hw => ?_)
  refine gj_if_ne (tgt := 67) C dX3_says_62 rfl (fun c13 => ?_) (fun c13 => ?_)
  · have hw := it_f hw c13
    refine gj_aload_n C dX3_says_67 0 rfl ?_
    refine gj_iload_n C dX3_says_68 1 rfl ?_
    refine gj_iload_n C dX3_says_69 2 rfl ?_
    refine gj_iconst (v := 4) C dX3_says_70 rfl ?_
    have key : ∀ x14 : Int32, x14 = (if 4 ≤ p2 then (p2 - 6) else p2) → GJ g 3 (TP d t J10 l11 (gs g).heap) 0 (TQ g d t (ansI Φ)) 82 [(0, rv (t + 1)), (1, .int p1), (2, .int p2)] [.int x14, .int p1, rv (t + 1)] → GJ g 3 (TP d t J10 l11 (gs g).heap) 0 (TQ g d t (ansI Φ)) 71 [(0, rv (t + 1)), (1, .int p1), (2, .int p2)] [.int 4, .int p2, .int p1, rv (t + 1)] := by
      intro x14 ex14 kk
      refine gj_icmp_ge (tgt := 78) C dX3_says_71 rfl (fun c15 => ?_) (fun c15 => ?_)
      · refine gj_iload_n C dX3_says_78 2 rfl ?_
        refine gj_bipush (v := 6) C dX3_says_79 rfl ?_
        refine gj_isub C dX3_says_81 ?_
        rw [if_pos c15] at ex14
        subst ex14
        exact kk
      · refine gj_iload_n C dX3_says_74 2 rfl ?_
        refine gj_goto (tgt := 82) C dX3_says_75 rfl ?_
        rw [if_neg c15] at ex14
        subst ex14
        exact kk
    obtain ⟨x14, ex14⟩ : ∃ x14 : Int32, x14 = (if 4 ≤ p2 then (p2 - 6) else p2) := ⟨_, rfl⟩
    refine key x14 ex14 ?_
    have hw := hw x14 ex14
    clear key
    refine tc_X3_signOf B hw (Nat.le_of_ble_eq_true rfl) (Nat.le_of_ble_eq_true rfl) (Nat.le_of_ble_eq_true rfl) dX3_says_82 (fun r18 J16 l17 hw => ?_)
    exact gt_iret B hw dX3_says_85
  · have hw := it_t hw c13
    refine gj_iconst (v := 0) C dX3_says_65 rfl ?_
    exact gt_iret B hw dX3_says_66

def wj_X3_says_57 (p1 : Int32) (p2 : Int32) (Φ : Int32 → (Nat → Nat → Int32) → Int64 → Prop) (J : Nat → Nat → Int32) (lw : Int64) : Prop :=
wj_X3_says_58 p1 p2 Φ 0 J lw
theorem wq_X3_says_57 {g : Gm} {d : TD} {t : Nat} (B : BdT g d prog_11_method_44_code 3 (some .int) 3 67) (p1 : Int32) (p2 : Int32) (Φ : Int32 → (Nat → Nat → Int32) → Int64 → Prop) (J : Nat → Nat → Int32) (lw : Int64) (hw : wj_X3_says_57 p1 p2 Φ J lw) : GJ g 3 (TP d t J lw (gs g).heap) 0 (TQ g d t (ansI Φ)) 57 [(0, rv (t + 1)), (1, .int p1), (2, .int p2)] [rv (t + 1)] := by
  unfold wj_X3_says_57 at hw
  have C := B.1
  have hW := B.2.1
  refine gj_iconst (v := 0) C dX3_says_57 rfl ?_
  exact wq_X3_says_58 B _ _ _ _ _ _ hw

def wp_X3_says (p1 : Int32) (p2 : Int32) (Φ : Int32 → (Nat → Nat → Int32) → Int64 → Prop) (J : Nat → Nat → Int32) (lw : Int64) : Prop :=
(∀ J1 : Nat → Nat → Int32, J1 = u2 J 0 0 0 → (wp_X3_isLodger p1 (fun r4 J2 l3 => (if r4 = 0 then Φ 0 J2 l3 else (wp_X3_within p2 0 3 (fun r8 J6 l7 => (if r8 = 0 then (if p2 < 10 then wj_X3_says_57 p1 p2 Φ J6 l7 else (if (J6 0 1) ≤ (p2 - 10) then wj_X3_says_57 p1 p2 Φ J6 l7 else (vp_in p1 (tln 7) ∧ (∀ x22 : Int32, x22 = (if (p2 - 10) = (J6 7 (Int32.toNatClampNeg p1)) then 0 else 1) → (wp_X3_right x22 1 (fun r26 J24 l25 => (if r26 = 0 then Φ 0 J24 l25 else (∀ x28 : Int32, x28 = (if 4 ≤ p2 then (p2 - 6) else p2) → (wp_X3_signOf p1 x28 (fun r32 J30 l31 => Φ r32 J30 l31) J24 l25)))) J6 l7))))) else wj_X3_says_58 p1 p2 Φ 1 J6 l7)) J2 l3))) J1 lw))
theorem wk_X3_says {g : Gm} {d : TD} {t : Nat} (B : BdT g d prog_11_method_44_code 3 (some .int) 3 67) (p1 : Int32) (p2 : Int32) (Φ : Int32 → (Nat → Nat → Int32) → Int64 → Prop) (J : Nat → Nat → Int32) (lw : Int64) (hw : wp_X3_says p1 p2 Φ J lw) : GJ g 3 (TP d t J lw (gs g).heap) 0 (TQ g d t (ansI Φ)) 0 [(0, rv (t + 1)), (1, .int p1), (2, .int p2)] [] := by
  unfold wp_X3_says at hw
  have C := B.1
  have hW := B.2.1
  refine gj_aload_n C dX3_says_0 0 rfl ?_
  refine gj_iconst (v := 0) C dX3_says_1 rfl ?_
  refine tp134 C hW dX3_says_2 ?_
  refine gt_nmJ (fun J1 eJ1 => ?_)
  have hw := hw J1 eJ1
  refine gj_aload_n C dX3_says_5 0 rfl ?_
  refine gj_iload_n C dX3_says_6 1 rfl ?_
  refine tc_X3_isLodger B hw (Nat.le_of_ble_eq_true rfl) (Nat.le_of_ble_eq_true rfl) (Nat.le_of_ble_eq_true rfl) dX3_says_7 (fun r4 J2 l3 br4 hw => ?_)
  refine gj_if_eq (tgt := 65) C dX3_says_10 rfl (fun c5 => ?_) (fun c5 => ?_)
  · have hw := it_t hw c5
    refine gj_iconst (v := 0) C dX3_says_65 rfl ?_
    exact gt_iret B hw dX3_says_66
  · have hw := it_f hw c5
    refine gj_aload_n C dX3_says_13 0 rfl ?_
    refine gj_iload_n C dX3_says_14 2 rfl ?_
    refine gj_iconst (v := 0) C dX3_says_15 rfl ?_
    refine gj_iconst (v := 3) C dX3_says_16 rfl ?_
    refine tc_X3_within B hw (Nat.le_of_ble_eq_true rfl) (Nat.le_of_ble_eq_true rfl) (Nat.le_of_ble_eq_true rfl) dX3_says_17 (fun r8 J6 l7 br8 hw => ?_)
    refine gj_if_ne (tgt := 53) C dX3_says_20 rfl (fun c9 => ?_) (fun c9 => ?_)
    · have hw := it_f hw c9
      refine gj_iconst (v := 1) C dX3_says_53 rfl ?_
      refine gj_goto (tgt := 58) C dX3_says_54 rfl ?_
      exact wq_X3_says_58 B _ _ _ _ _ _ hw
    · have hw := it_t hw c9
      refine gj_iload_n C dX3_says_23 2 rfl ?_
      refine gj_bipush (v := 10) C dX3_says_24 rfl ?_
      refine gj_icmp_lt (tgt := 57) C dX3_says_26 rfl (fun c19 => ?_) (fun c19 => ?_)
      · have hw := it_t hw c19
        exact wq_X3_says_57 B _ _ _ _ _ hw
      · have hw := it_f hw c19
        refine gj_iload_n C dX3_says_29 2 rfl ?_
        refine gj_bipush (v := 10) C dX3_says_30 rfl ?_
        refine gj_isub C dX3_says_32 ?_
        refine gj_aload_n C dX3_says_33 0 rfl ?_
        refine tg248 C hW dX3_says_34 ?_
        refine gj_icmp_ge (tgt := 57) C dX3_says_37 rfl (fun c20 => ?_) (fun c20 => ?_)
        · have hw := it_t hw c20
          exact wq_X3_says_57 B _ _ _ _ _ hw
        · have hw := it_f hw c20
          refine gj_iload_n C dX3_says_40 2 rfl ?_
          refine gj_bipush (v := 10) C dX3_says_41 rfl ?_
          refine gj_isub C dX3_says_43 ?_
          refine gj_aload_n C dX3_says_44 0 rfl ?_
          refine tg16 C hW dX3_says_45 ?_
          refine gj_iload_n C dX3_says_48 1 rfl ?_
          obtain ⟨h21, hw⟩ := hw
          refine gt_iald C hW (by decide) h21 dX3_says_49 ?_
          have key : ∀ x22 : Int32, x22 = (if (p2 - 10) = (J6 7 (Int32.toNatClampNeg p1)) then 0 else 1) → GJ g 3 (TP d t J6 l7 (gs g).heap) 0 (TQ g d t (ansI Φ)) 58 [(0, rv (t + 1)), (1, .int p1), (2, .int p2)] [.int x22, rv (t + 1)] → GJ g 3 (TP d t J6 l7 (gs g).heap) 0 (TQ g d t (ansI Φ)) 50 [(0, rv (t + 1)), (1, .int p1), (2, .int p2)] [.int (J6 7 (Int32.toNatClampNeg p1)), .int (p2 - 10), rv (t + 1)] := by
            intro x22 ex22 kk
            refine gj_icmp_eq (tgt := 57) C dX3_says_50 rfl (fun c23 => ?_) (fun c23 => ?_)
            · refine gj_iconst (v := 0) C dX3_says_57 rfl ?_
              rw [if_pos c23] at ex22
              subst ex22
              exact kk
            · refine gj_iconst (v := 1) C dX3_says_53 rfl ?_
              refine gj_goto (tgt := 58) C dX3_says_54 rfl ?_
              rw [if_neg c23] at ex22
              subst ex22
              exact kk
          obtain ⟨x22, ex22⟩ : ∃ x22 : Int32, x22 = (if (p2 - 10) = (J6 7 (Int32.toNatClampNeg p1)) then 0 else 1) := ⟨_, rfl⟩
          have bx22 : x22 = 0 ∨ x22 = 1 := by rw [ex22]; (repeat' split) <;> simp
          refine key x22 ex22 ?_
          have hw := hw x22 ex22
          clear key
          refine gj_iconst (v := 1) C dX3_says_58 rfl ?_
          refine tc_X3_right B hw (Nat.le_of_ble_eq_true rfl) (Nat.le_of_ble_eq_true rfl) (Nat.le_of_ble_eq_true rfl) dX3_says_59 (fun r26 J24 l25 br26 hw => ?_)
          refine gj_if_ne (tgt := 67) C dX3_says_62 rfl (fun c27 => ?_) (fun c27 => ?_)
          · have hw := it_f hw c27
            refine gj_aload_n C dX3_says_67 0 rfl ?_
            refine gj_iload_n C dX3_says_68 1 rfl ?_
            refine gj_iload_n C dX3_says_69 2 rfl ?_
            refine gj_iconst (v := 4) C dX3_says_70 rfl ?_
            have key : ∀ x28 : Int32, x28 = (if 4 ≤ p2 then (p2 - 6) else p2) → GJ g 3 (TP d t J24 l25 (gs g).heap) 0 (TQ g d t (ansI Φ)) 82 [(0, rv (t + 1)), (1, .int p1), (2, .int p2)] [.int x28, .int p1, rv (t + 1)] → GJ g 3 (TP d t J24 l25 (gs g).heap) 0 (TQ g d t (ansI Φ)) 71 [(0, rv (t + 1)), (1, .int p1), (2, .int p2)] [.int 4, .int p2, .int p1, rv (t + 1)] := by
              intro x28 ex28 kk
              refine gj_icmp_ge (tgt := 78) C dX3_says_71 rfl (fun c29 => ?_) (fun c29 => ?_)
              · refine gj_iload_n C dX3_says_78 2 rfl ?_
                refine gj_bipush (v := 6) C dX3_says_79 rfl ?_
                refine gj_isub C dX3_says_81 ?_
                rw [if_pos c29] at ex28
                subst ex28
                exact kk
              · refine gj_iload_n C dX3_says_74 2 rfl ?_
                refine gj_goto (tgt := 82) C dX3_says_75 rfl ?_
                rw [if_neg c29] at ex28
                subst ex28
                exact kk
            obtain ⟨x28, ex28⟩ : ∃ x28 : Int32, x28 = (if 4 ≤ p2 then (p2 - 6) else p2) := ⟨_, rfl⟩
            refine key x28 ex28 ?_
            have hw := hw x28 ex28
            clear key
            refine tc_X3_signOf B hw (Nat.le_of_ble_eq_true rfl) (Nat.le_of_ble_eq_true rfl) (Nat.le_of_ble_eq_true rfl) dX3_says_82 (fun r32 J30 l31 hw => ?_)
            exact gt_iret B hw dX3_says_85
          · have hw := it_t hw c27
            refine gj_iconst (v := 0) C dX3_says_65 rfl ?_
            exact gt_iret B hw dX3_says_66

theorem met_X3_says (l : Launch) {d : TD} {t : Nat} {J : Nat → Nat → Int32} {lw : Int64} {p1 : Int32} {p2 : Int32} {Φ : Int32 → (Nat → Nat → Int32) → Int64 → Prop} (hw : wp_X3_says p1 p2 Φ J lw) : MetT l yX3_says prog_11_method_44_code 3 (some .int) 3 67 [.ref t, .int p1, .int p2] d t J lw (ansI Φ) :=
  mt_of (by decide +kernel) rfl (Nat.le_of_ble_eq_true rfl) (fun g _ B => wk_X3_says B _ _ _ J lw hw)
/-! refuses(I)I -/
def wp_X3_refuses (p1 : Int32) (Φ : Int32 → (Nat → Nat → Int32) → Int64 → Prop) (J : Nat → Nat → Int32) (lw : Int64) : Prop :=
(vp_in p1 (tln 16) ∧ (vp_in p1 (tln 16) ∧ (∀ J3 : Nat → Nat → Int32, J3 = u2 J 16 (Int32.toNatClampNeg p1) ((J 16 (Int32.toNatClampNeg p1)) + 1) → Φ (-1) J3 lw)))
theorem wk_X3_refuses {g : Gm} {d : TD} {t : Nat} (B : BdT g d prog_11_method_45_code 2 (some .int) 0 0) (p1 : Int32) (Φ : Int32 → (Nat → Nat → Int32) → Int64 → Prop) (J : Nat → Nat → Int32) (lw : Int64) (hw : wp_X3_refuses p1 Φ J lw) : GJ g 2 (TP d t J lw (gs g).heap) 0 (TQ g d t (ansI Φ)) 0 [(0, rv (t + 1)), (1, .int p1)] [] := by
  unfold wp_X3_refuses at hw
  have C := B.1
  have hW := B.2.1
  refine gj_aload_n C dX3_refuses_0 0 rfl ?_
  refine tg38 C hW dX3_refuses_1 ?_
  refine gj_iload_n C dX3_refuses_4 1 rfl ?_
  refine gj_dup2_11 C dX3_refuses_5 rfl (rv_cat _) ?_
  obtain ⟨h1, hw⟩ := hw
  refine gt_iald C hW (by decide) h1 dX3_refuses_6 ?_
  refine gj_iconst (v := 1) C dX3_refuses_7 rfl ?_
  refine gj_iadd C dX3_refuses_8 ?_
  obtain ⟨h2, hw⟩ := hw
  refine gt_iast C hW (by decide) h2 dX3_refuses_9 ?_
  refine gt_nmJ (fun J3 eJ3 => ?_)
  have hw := hw J3 eJ3
  refine gj_iconst (v := (-1)) C dX3_refuses_10 rfl ?_
  exact gt_iret B hw dX3_refuses_11

theorem met_X3_refuses (l : Launch) {d : TD} {t : Nat} {J : Nat → Nat → Int32} {lw : Int64} {p1 : Int32} {Φ : Int32 → (Nat → Nat → Int32) → Int64 → Prop} (hw : wp_X3_refuses p1 Φ J lw) : MetT l yX3_refuses prog_11_method_45_code 2 (some .int) 0 0 [.ref t, .int p1] d t J lw (ansI Φ) :=
  mt_of (by decide +kernel) rfl (Nat.le_of_ble_eq_true rfl) (fun g _ B => wk_X3_refuses B _ _ J lw hw)
theorem tc_X3_refuses {g : Gm} {d : TD} {t : Nat} {cc : ByteArray} {nL : Nat} {ret : Option FieldType} {fr lo : Nat} (B : BdT g d cc nL ret fr lo) {J : Nat → Nat → Int32} {lw : Int64} {H0 : Heap} {Q : State → Prop} {pc : Nat} {lc : List (Nat × Value)} {rest : List Value} {p1 : Int32} {Φ : Int32 → (Nat → Nat → Int32) → Int64 → Prop} (hw : wp_X3_refuses p1 Φ J lw) (hf : 1 ≤ fr) (hlo : 21 ≤ lo) (hrest : (rest.map fun v => v.category).sum ≤ 8) (dg : decode cc pc = .ok (.invokevirtual 317, 3)) (k : ∀ (r : Int32) J' lw', Φ r J' lw' → GJ g nL (TP d t J' lw' H0) 0 Q (pc + 3) lc (.int r :: rest)) : GJ g nL (TP d t J lw H0) 0 Q pc lc (.int p1 :: rv (t + 1) :: rest) :=
  gt_callV (n := 1) (As := [.int p1]) B (met_X3_refuses g.2.1 hw) (lw_V q1566 q1568 qs64 q97 q1569) ⟨rfl, by decide +kernel, by decide +kernel, by decide +kernel⟩ rfl hf hlo ⟨Nat.zero_le _, Nat.zero_le _⟩ rfl hrest dg (fun v J' lw' hp => by obtain ⟨r, rfl, hp⟩ := hp; exact k r J' lw' hp)
/-! lend(III)I -/
def wj_X3_lend_55 (p1 : Int32) (p2 : Int32) (p3 : Int32) (Φ : Int32 → (Nat → Nat → Int32) → Int64 → Prop) (J : Nat → Nat → Int32) (lw : Int64) : Prop :=
(wp_X3_refuses 1 (fun r13 J11 l12 => Φ r13 J11 l12) J lw)
theorem wq_X3_lend_55 {g : Gm} {d : TD} {t : Nat} (B : BdT g d prog_11_method_46_code 4 (some .int) 2 43) (p1 : Int32) (p2 : Int32) (p3 : Int32) (Φ : Int32 → (Nat → Nat → Int32) → Int64 → Prop) (J : Nat → Nat → Int32) (lw : Int64) (hw : wj_X3_lend_55 p1 p2 p3 Φ J lw) : GJ g 4 (TP d t J lw (gs g).heap) 0 (TQ g d t (ansI Φ)) 55 [(0, rv (t + 1))] [] := by
  unfold wj_X3_lend_55 at hw
  have C := B.1
  have hW := B.2.1
  refine gj_aload_n C dX3_lend_55 0 rfl ?_
  refine gj_iconst (v := 1) C dX3_lend_56 rfl ?_
  refine tc_X3_refuses B hw (Nat.le_of_ble_eq_true rfl) (Nat.le_of_ble_eq_true rfl) (Nat.le_of_ble_eq_true rfl) dX3_lend_57 (fun r13 J11 l12 hw => ?_)
  exact gt_iret B hw dX3_lend_60

def wp_X3_lend (p1 : Int32) (p2 : Int32) (p3 : Int32) (Φ : Int32 → (Nat → Nat → Int32) → Int64 → Prop) (J : Nat → Nat → Int32) (lw : Int64) : Prop :=
(∀ J1 : Nat → Nat → Int32, J1 = u2 J 0 0 0 → (wp_X3_isLodger p1 (fun r4 J2 l3 => (if r4 = 0 then Φ 0 J2 l3 else (wp_X3_isLodger p2 (fun r8 J6 l7 => (if r8 = 0 then Φ 0 J6 l7 else (if (J6 0 36) = 12 then wj_X3_lend_55 p1 p2 p3 Φ J6 l7 else (if p1 = p2 then wj_X3_lend_55 p1 p2 p3 Φ J6 l7 else (wp_X3_within p3 1 2 (fun r17 J15 l16 => (if r17 = 0 then wj_X3_lend_55 p1 p2 p3 Φ J15 l16 else (wp_X3_has p1 p3 (fun r21 J19 l20 => (if r21 = 0 then wj_X3_lend_55 p1 p2 p3 Φ J19 l20 else (vp_in (3 * (J19 0 36)) (tln 37) ∧ (∀ J24 : Nat → Nat → Int32, J24 = u2 J19 37 (Int32.toNatClampNeg (3 * (J19 0 36))) p1 → (vp_in ((3 * (J24 0 36)) + 1) (tln 37) ∧ (∀ J26 : Nat → Nat → Int32, J26 = u2 J24 37 (Int32.toNatClampNeg ((3 * (J24 0 36)) + 1)) p2 → (vp_in ((3 * (J26 0 36)) + 2) (tln 37) ∧ (∀ J28 : Nat → Nat → Int32, J28 = u2 J26 37 (Int32.toNatClampNeg ((3 * (J26 0 36)) + 2)) p3 → (∀ J29 : Nat → Nat → Int32, J29 = u2 J28 0 36 ((J28 0 36) + 1) → Φ (J29 0 36) J29 l20))))))))) J15 l16))) J6 l7))))) J2 l3))) J1 lw))
theorem wk_X3_lend {g : Gm} {d : TD} {t : Nat} (B : BdT g d prog_11_method_46_code 4 (some .int) 2 43) (p1 : Int32) (p2 : Int32) (p3 : Int32) (Φ : Int32 → (Nat → Nat → Int32) → Int64 → Prop) (J : Nat → Nat → Int32) (lw : Int64) (hw : wp_X3_lend p1 p2 p3 Φ J lw) : GJ g 4 (TP d t J lw (gs g).heap) 0 (TQ g d t (ansI Φ)) 0 [(0, rv (t + 1)), (1, .int p1), (2, .int p2), (3, .int p3)] [] := by
  unfold wp_X3_lend at hw
  have C := B.1
  have hW := B.2.1
  refine gj_aload_n C dX3_lend_0 0 rfl ?_
  refine gj_iconst (v := 0) C dX3_lend_1 rfl ?_
  refine tp134 C hW dX3_lend_2 ?_
  refine gt_nmJ (fun J1 eJ1 => ?_)
  have hw := hw J1 eJ1
  refine gj_aload_n C dX3_lend_5 0 rfl ?_
  refine gj_iload_n C dX3_lend_6 1 rfl ?_
  refine tc_X3_isLodger B hw (Nat.le_of_ble_eq_true rfl) (Nat.le_of_ble_eq_true rfl) (Nat.le_of_ble_eq_true rfl) dX3_lend_7 (fun r4 J2 l3 br4 hw => ?_)
  refine gj_if_eq (tgt := 21) C dX3_lend_10 rfl (fun c5 => ?_) (fun c5 => ?_)
  · have hw := it_t hw c5
    refine gj_iconst (v := 0) C dX3_lend_21 rfl ?_
    exact gt_iret B hw dX3_lend_22
  · have hw := it_f hw c5
    refine gj_aload_n C dX3_lend_13 0 rfl ?_
    refine gj_iload_n C dX3_lend_14 2 rfl ?_
    refine tc_X3_isLodger B hw (Nat.le_of_ble_eq_true rfl) (Nat.le_of_ble_eq_true rfl) (Nat.le_of_ble_eq_true rfl) dX3_lend_15 (fun r8 J6 l7 br8 hw => ?_)
    refine gj_if_ne (tgt := 23) C dX3_lend_18 rfl (fun c9 => ?_) (fun c9 => ?_)
    · have hw := it_f hw c9
      refine gj_aload_n C dX3_lend_23 0 rfl ?_
      refine tg264 C hW dX3_lend_24 ?_
      refine gj_bipush (v := 12) C dX3_lend_27 rfl ?_
      refine gj_icmp_eq (tgt := 55) C dX3_lend_29 rfl (fun c10 => ?_) (fun c10 => ?_)
      · have hw := it_t hw c10
        refine gj_sub (lc' := [(0, rv (t + 1))]) [0] rfl ?_
        exact wq_X3_lend_55 B _ _ _ _ _ _ hw
      · have hw := it_f hw c10
        refine gj_iload_n C dX3_lend_32 1 rfl ?_
        refine gj_iload_n C dX3_lend_33 2 rfl ?_
        refine gj_icmp_eq (tgt := 55) C dX3_lend_34 rfl (fun c14 => ?_) (fun c14 => ?_)
        · have hw := it_t hw c14
          refine gj_sub (lc' := [(0, rv (t + 1))]) [0] rfl ?_
          exact wq_X3_lend_55 B _ _ _ _ _ _ hw
        · have hw := it_f hw c14
          refine gj_iload_n C dX3_lend_37 3 rfl ?_
          refine gj_iconst (v := 1) C dX3_lend_38 rfl ?_
          refine gj_iconst (v := 2) C dX3_lend_39 rfl ?_
          refine tc_X3_within B hw (Nat.le_of_ble_eq_true rfl) (Nat.le_of_ble_eq_true rfl) (Nat.le_of_ble_eq_true rfl) dX3_lend_40 (fun r17 J15 l16 br17 hw => ?_)
          refine gj_if_eq (tgt := 55) C dX3_lend_43 rfl (fun c18 => ?_) (fun c18 => ?_)
          · have hw := it_t hw c18
            refine gj_sub (lc' := [(0, rv (t + 1))]) [0] rfl ?_
            exact wq_X3_lend_55 B _ _ _ _ _ _ hw
          · have hw := it_f hw c18
            refine gj_aload_n C dX3_lend_46 0 rfl ?_
            refine gj_iload_n C dX3_lend_47 1 rfl ?_
            refine gj_iload_n C dX3_lend_48 3 rfl ?_
            refine tc_X3_has B hw (Nat.le_of_ble_eq_true rfl) (Nat.le_of_ble_eq_true rfl) (Nat.le_of_ble_eq_true rfl) dX3_lend_49 (fun r21 J19 l20 hw => ?_)
            refine gj_if_ne (tgt := 61) C dX3_lend_52 rfl (fun c22 => ?_) (fun c22 => ?_)
            · have hw := it_f hw c22
              refine gj_aload_n C dX3_lend_61 0 rfl ?_
              refine tg62 C hW dX3_lend_62 ?_
              refine gj_iconst (v := 3) C dX3_lend_65 rfl ?_
              refine gj_aload_n C dX3_lend_66 0 rfl ?_
              refine tg264 C hW dX3_lend_67 ?_
              refine gj_imul C dX3_lend_70 ?_
              refine gj_iload_n C dX3_lend_71 1 rfl ?_
              obtain ⟨h23, hw⟩ := hw
              refine gt_iast C hW (by decide) h23 dX3_lend_72 ?_
              refine gt_nmJ (fun J24 eJ24 => ?_)
              have hw := hw J24 eJ24
              refine gj_aload_n C dX3_lend_73 0 rfl ?_
              refine tg62 C hW dX3_lend_74 ?_
              refine gj_iconst (v := 3) C dX3_lend_77 rfl ?_
              refine gj_aload_n C dX3_lend_78 0 rfl ?_
              refine tg264 C hW dX3_lend_79 ?_
              refine gj_imul C dX3_lend_82 ?_
              refine gj_iconst (v := 1) C dX3_lend_83 rfl ?_
              refine gj_iadd C dX3_lend_84 ?_
              refine gj_iload_n C dX3_lend_85 2 rfl ?_
              obtain ⟨h25, hw⟩ := hw
              refine gt_iast C hW (by decide) h25 dX3_lend_86 ?_
              refine gt_nmJ (fun J26 eJ26 => ?_)
              have hw := hw J26 eJ26
              refine gj_aload_n C dX3_lend_87 0 rfl ?_
              refine tg62 C hW dX3_lend_88 ?_
              refine gj_iconst (v := 3) C dX3_lend_91 rfl ?_
              refine gj_aload_n C dX3_lend_92 0 rfl ?_
              refine tg264 C hW dX3_lend_93 ?_
              refine gj_imul C dX3_lend_96 ?_
              refine gj_iconst (v := 2) C dX3_lend_97 rfl ?_
              refine gj_iadd C dX3_lend_98 ?_
              refine gj_iload_n C dX3_lend_99 3 rfl ?_
              obtain ⟨h27, hw⟩ := hw
              refine gt_iast C hW (by decide) h27 dX3_lend_100 ?_
              refine gt_nmJ (fun J28 eJ28 => ?_)
              have hw := hw J28 eJ28
              refine gj_aload_n C dX3_lend_101 0 rfl ?_
              refine gj_dup C dX3_lend_102 (rv_cat _) ?_
              refine tg264 C hW dX3_lend_103 ?_
              refine gj_iconst (v := 1) C dX3_lend_106 rfl ?_
              refine gj_iadd C dX3_lend_107 ?_
              refine tp264 C hW dX3_lend_108 ?_
              refine gt_nmJ (fun J29 eJ29 => ?_)
              have hw := hw J29 eJ29
              refine gj_aload_n C dX3_lend_111 0 rfl ?_
              refine tg264 C hW dX3_lend_112 ?_
              exact gt_iret B hw dX3_lend_115
            · have hw := it_t hw c22
              refine gj_sub (lc' := [(0, rv (t + 1))]) [0] rfl ?_
              exact wq_X3_lend_55 B _ _ _ _ _ _ hw
    · have hw := it_t hw c9
      refine gj_iconst (v := 0) C dX3_lend_21 rfl ?_
      exact gt_iret B hw dX3_lend_22

theorem met_X3_lend (l : Launch) {d : TD} {t : Nat} {J : Nat → Nat → Int32} {lw : Int64} {p1 : Int32} {p2 : Int32} {p3 : Int32} {Φ : Int32 → (Nat → Nat → Int32) → Int64 → Prop} (hw : wp_X3_lend p1 p2 p3 Φ J lw) : MetT l yX3_lend prog_11_method_46_code 4 (some .int) 2 43 [.ref t, .int p1, .int p2, .int p3] d t J lw (ansI Φ) :=
  mt_of (by decide +kernel) rfl (Nat.le_of_ble_eq_true rfl) (fun g _ B => wk_X3_lend B _ _ _ _ J lw hw)
/-! back()I -/
def wp_X3_back (Φ : Int32 → (Nat → Nat → Int32) → Int64 → Prop) (J : Nat → Nat → Int32) (lw : Int64) : Prop :=
(∀ J1 : Nat → Nat → Int32, J1 = u2 J 0 0 0 → (if (J1 0 36) = 0 then Φ (-1) J1 lw else (∀ J3 : Nat → Nat → Int32, J3 = u2 J1 0 36 ((J1 0 36) - 1) → Φ (J3 0 36) J3 lw)))
theorem wk_X3_back {g : Gm} {d : TD} {t : Nat} (B : BdT g d prog_11_method_47_code 1 (some .int) 0 0) (Φ : Int32 → (Nat → Nat → Int32) → Int64 → Prop) (J : Nat → Nat → Int32) (lw : Int64) (hw : wp_X3_back Φ J lw) : GJ g 1 (TP d t J lw (gs g).heap) 0 (TQ g d t (ansI Φ)) 0 [(0, rv (t + 1))] [] := by
  unfold wp_X3_back at hw
  have C := B.1
  have hW := B.2.1
  refine gj_aload_n C dX3_back_0 0 rfl ?_
  refine gj_iconst (v := 0) C dX3_back_1 rfl ?_
  refine tp134 C hW dX3_back_2 ?_
  refine gt_nmJ (fun J1 eJ1 => ?_)
  have hw := hw J1 eJ1
  refine gj_aload_n C dX3_back_5 0 rfl ?_
  refine tg264 C hW dX3_back_6 ?_
  refine gj_if_ne (tgt := 14) C dX3_back_9 rfl (fun c2 => ?_) (fun c2 => ?_)
  · have hw := it_f hw c2
    refine gj_aload_n C dX3_back_14 0 rfl ?_
    refine gj_dup C dX3_back_15 (rv_cat _) ?_
    refine tg264 C hW dX3_back_16 ?_
    refine gj_iconst (v := 1) C dX3_back_19 rfl ?_
    refine gj_isub C dX3_back_20 ?_
    refine tp264 C hW dX3_back_21 ?_
    refine gt_nmJ (fun J3 eJ3 => ?_)
    have hw := hw J3 eJ3
    refine gj_aload_n C dX3_back_24 0 rfl ?_
    refine tg264 C hW dX3_back_25 ?_
    exact gt_iret B hw dX3_back_28
  · have hw := it_t hw c2
    refine gj_iconst (v := (-1)) C dX3_back_12 rfl ?_
    exact gt_iret B hw dX3_back_13

theorem met_X3_back (l : Launch) {d : TD} {t : Nat} {J : Nat → Nat → Int32} {lw : Int64} {Φ : Int32 → (Nat → Nat → Int32) → Int64 → Prop} (hw : wp_X3_back Φ J lw) : MetT l yX3_back prog_11_method_47_code 1 (some .int) 0 0 [.ref t] d t J lw (ansI Φ) :=
  mt_of (by decide +kernel) rfl (Nat.le_of_ble_eq_true rfl) (fun g _ B => wk_X3_back B _ J lw hw)
/-! draw(I)V -/
def wj_X3_draw_97 (p1 : Int32) (Φ : (Nat → Nat → Int32) → Int64 → Prop) (X18 : Int32 → Int32 → Int32 → (Nat → Nat → Int32) → Int64 → Prop) (v2 : Int32) (v3 : Int32) (v4 : Int32) (v5 : Int32) (J : Nat → Nat → Int32) (lw : Int64) : Prop :=
(wp_X3_lowest v5 (fun r13 J11 l12 => (vp_in ((24 * v4) + v3) (tln 38) ∧ (∀ J15 : Nat → Nat → Int32, J15 = u2 J11 38 (Int32.toNatClampNeg ((24 * v4) + v3)) r13 → (∀ x16 : Int32, x16 = v4 + 1 → X18 v2 v3 x16 J15 l12)))) J lw)
theorem wq_X3_draw_97 {g : Gm} {d : TD} {t : Nat} (B : BdT g d prog_11_method_48_code 8 none 1 22) (p1 : Int32) (Φ : (Nat → Nat → Int32) → Int64 → Prop) (X18 : Int32 → Int32 → Int32 → (Nat → Nat → Int32) → Int64 → Prop) (hX18 : ∀ v2 v3 v4 J lw, X18 v2 v3 v4 J lw → GJ g 8 (TP d t J lw (gs g).heap) 0 (TQ g d t (ansV Φ)) 18 [(0, rv (t + 1)), (2, .int v2), (3, .int v3), (4, .int v4)] []) (v2 : Int32) (v3 : Int32) (v4 : Int32) (v5 : Int32) (J : Nat → Nat → Int32) (lw : Int64) (hw : wj_X3_draw_97 p1 Φ X18 v2 v3 v4 v5 J lw) : GJ g 8 (TP d t J lw (gs g).heap) 0 (TQ g d t (ansV Φ)) 97 [(0, rv (t + 1)), (2, .int v2), (3, .int v3), (4, .int v4), (5, .int v5)] [] := by
  unfold wj_X3_draw_97 at hw
  have C := B.1
  have hW := B.2.1
  refine gj_aload_n C dX3_draw_97 0 rfl ?_
  refine tg65 C hW dX3_draw_98 ?_
  refine gj_bipush (v := 24) C dX3_draw_101 rfl ?_
  refine gj_iload C dX3_draw_103 3 rfl ?_
  refine gj_imul C dX3_draw_105 ?_
  refine gj_iload_n C dX3_draw_106 2 rfl ?_
  refine gj_iadd C dX3_draw_107 ?_
  refine gj_iload C dX3_draw_108 4 rfl ?_
  refine tc_X3_lowest B hw (Nat.le_of_ble_eq_true rfl) (Nat.le_of_ble_eq_true rfl) (Nat.le_of_ble_eq_true rfl) dX3_draw_110 (fun r13 J11 l12 hw => ?_)
  obtain ⟨h14, hw⟩ := hw
  refine gt_iast C hW (by decide) h14 dX3_draw_113 ?_
  refine gt_nmJ (fun J15 eJ15 => ?_)
  have hw := hw J15 eJ15
  obtain ⟨x16, ex16⟩ : ∃ x16 : Int32, x16 = v4 + 1 := ⟨_, rfl⟩
  have hw := hw x16 ex16
  refine gj_iinc (lc' := [(4, .int x16), (0, rv (t + 1)), (2, .int v2), (3, .int v3), (5, .int v5)]) (w := 1) (v := x16) C dX3_draw_114 3 rfl rfl ex16.symm (Nat.le_of_ble_eq_true rfl) rfl ?_
  refine gj_goto (tgt := 18) C dX3_draw_117 rfl ?_
  refine gj_sub (lc' := [(0, rv (t + 1)), (2, .int v2), (3, .int v3), (4, .int x16)]) [1, 2, 3, 0] rfl ?_
  exact hX18 _ _ _ _ _ hw

def wf_X3_draw_77 (p1 : Int32) (Φ : (Nat → Nat → Int32) → Int64 → Prop) (X18 : Int32 → Int32 → Int32 → (Nat → Nat → Int32) → Int64 → Prop) (X77 : Int32 → Int32 → Int32 → Int32 → Int32 → (Nat → Nat → Int32) → Int64 → Prop) (v2 : Int32) (v3 : Int32) (v4 : Int32) (v5 : Int32) (v7 : Int32) (J : Nat → Nat → Int32) (lw : Int64) : Prop :=
(if v7 ≤ 0 then wj_X3_draw_97 p1 Φ X18 v2 v3 v4 v5 J lw else (∀ x21 : Int32, x21 = (v5 &&& (v5 - 1)) → (∀ x22 : Int32, x22 = v7 + (-1) → X77 v2 v3 v4 x21 x22 J lw)))
def wl_X3_draw_77 (p1 : Int32) (Φ : (Nat → Nat → Int32) → Int64 → Prop) (X18 : Int32 → Int32 → Int32 → (Nat → Nat → Int32) → Int64 → Prop) (v2 : Int32) (v3 : Int32) (v4 : Int32) (v5 : Int32) (v7 : Int32) (J : Nat → Nat → Int32) (lw : Int64) : Prop := ∀ X77 : Int32 → Int32 → Int32 → Int32 → Int32 → (Nat → Nat → Int32) → Int64 → Prop, (∀ v2 v3 v4 v5 v7 J lw, wf_X3_draw_77 p1 Φ X18 X77 v2 v3 v4 v5 v7 J lw → X77 v2 v3 v4 v5 v7 J lw) → X77 v2 v3 v4 v5 v7 J lw
theorem wk_X3_draw_77 {g : Gm} {d : TD} {t : Nat} (B : BdT g d prog_11_method_48_code 8 none 1 22) (p1 : Int32) (Φ : (Nat → Nat → Int32) → Int64 → Prop) (X18 : Int32 → Int32 → Int32 → (Nat → Nat → Int32) → Int64 → Prop) (X77 : Int32 → Int32 → Int32 → Int32 → Int32 → (Nat → Nat → Int32) → Int64 → Prop) (hX18 : ∀ v2 v3 v4 J lw, X18 v2 v3 v4 J lw → GJ g 8 (TP d t J lw (gs g).heap) 0 (TQ g d t (ansV Φ)) 18 [(0, rv (t + 1)), (2, .int v2), (3, .int v3), (4, .int v4)] []) (hX77 : ∀ v2 v3 v4 v5 v7 J lw, X77 v2 v3 v4 v5 v7 J lw → GJ g 8 (TP d t J lw (gs g).heap) 0 (TQ g d t (ansV Φ)) 77 [(0, rv (t + 1)), (2, .int v2), (3, .int v3), (4, .int v4), (5, .int v5), (7, .int v7)] []) (v2 : Int32) (v3 : Int32) (v4 : Int32) (v5 : Int32) (v7 : Int32) (J : Nat → Nat → Int32) (lw : Int64) (hw : wf_X3_draw_77 p1 Φ X18 X77 v2 v3 v4 v5 v7 J lw) : GJ g 8 (TP d t J lw (gs g).heap) 0 (TQ g d t (ansV Φ)) 77 [(0, rv (t + 1)), (2, .int v2), (3, .int v3), (4, .int v4), (5, .int v5), (7, .int v7)] [] := by
  unfold wf_X3_draw_77 at hw
  have C := B.1
  have hW := B.2.1
  refine gj_iload C dX3_draw_77 5 rfl ?_
  refine gj_if_le (tgt := 97) C dX3_draw_79 rfl (fun c20 => ?_) (fun c20 => ?_)
  · have hw := it_t hw c20
    refine gj_sub (lc' := [(0, rv (t + 1)), (2, .int v2), (3, .int v3), (4, .int v4), (5, .int v5)]) [0, 1, 2, 3, 4] rfl ?_
    exact wq_X3_draw_97 B _ _ _ hX18 _ _ _ _ _ _ hw
  · have hw := it_f hw c20
    refine gj_iload C dX3_draw_82 4 rfl ?_
    refine gj_iload C dX3_draw_84 4 rfl ?_
    refine gj_iconst (v := 1) C dX3_draw_86 rfl ?_
    refine gj_isub C dX3_draw_87 ?_
    refine gj_iand C dX3_draw_88 ?_
    refine gj_topi (fun x21 ex21 => ?_)
    have hw := hw x21 ex21
    refine gj_istore (lc' := [(5, .int x21), (0, rv (t + 1)), (2, .int v2), (3, .int v3), (4, .int v4), (7, .int v7)]) C dX3_draw_89 (Nat.le_of_ble_eq_true rfl) rfl ?_
    obtain ⟨x22, ex22⟩ : ∃ x22 : Int32, x22 = v7 + (-1) := ⟨_, rfl⟩
    have hw := hw x22 ex22
    refine gj_iinc (lc' := [(7, .int x22), (5, .int x21), (0, rv (t + 1)), (2, .int v2), (3, .int v3), (4, .int v4)]) (w := (-1)) (v := x22) C dX3_draw_91 5 rfl rfl ex22.symm (Nat.le_of_ble_eq_true rfl) rfl ?_
    refine gj_goto (tgt := 77) C dX3_draw_94 rfl ?_
    refine gj_sub (lc' := [(0, rv (t + 1)), (2, .int v2), (3, .int v3), (4, .int v4), (5, .int x21), (7, .int x22)]) [2, 3, 4, 5, 1, 0] rfl ?_
    exact hX77 _ _ _ _ _ _ _ hw

theorem wq_X3_draw_77 {g : Gm} {d : TD} {t : Nat} (B : BdT g d prog_11_method_48_code 8 none 1 22) (p1 : Int32) (Φ : (Nat → Nat → Int32) → Int64 → Prop) (X18 : Int32 → Int32 → Int32 → (Nat → Nat → Int32) → Int64 → Prop) (hX18 : ∀ v2 v3 v4 J lw, X18 v2 v3 v4 J lw → GJ g 8 (TP d t J lw (gs g).heap) 0 (TQ g d t (ansV Φ)) 18 [(0, rv (t + 1)), (2, .int v2), (3, .int v3), (4, .int v4)] []) (v2 : Int32) (v3 : Int32) (v4 : Int32) (v5 : Int32) (v7 : Int32) (J : Nat → Nat → Int32) (lw : Int64) (hw : wl_X3_draw_77 p1 Φ X18 v2 v3 v4 v5 v7 J lw) : GJ g 8 (TP d t J lw (gs g).heap) 0 (TQ g d t (ansV Φ)) 77 [(0, rv (t + 1)), (2, .int v2), (3, .int v3), (4, .int v4), (5, .int v5), (7, .int v7)] [] :=
  hw (fun v2 v3 v4 v5 v7 J lw => GJ g 8 (TP d t J lw (gs g).heap) 0 (TQ g d t (ansV Φ)) 77 [(0, rv (t + 1)), (2, .int v2), (3, .int v3), (4, .int v4), (5, .int v5), (7, .int v7)] []) (fun v2 v3 v4 v5 v7 J lw h => wk_X3_draw_77 B p1 Φ X18 (fun v2 v3 v4 v5 v7 J lw => GJ g 8 (TP d t J lw (gs g).heap) 0 (TQ g d t (ansV Φ)) 77 [(0, rv (t + 1)), (2, .int v2), (3, .int v3), (4, .int v4), (5, .int v5), (7, .int v7)] []) hX18 (fun v2 v3 v4 v5 v7 J lw h => h) v2 v3 v4 v5 v7 J lw h)
def wf_X3_draw_18 (p1 : Int32) (Φ : (Nat → Nat → Int32) → Int64 → Prop) (X9 : Int32 → Int32 → (Nat → Nat → Int32) → Int64 → Prop) (X18 : Int32 → Int32 → Int32 → (Nat → Nat → Int32) → Int64 → Prop) (v2 : Int32) (v3 : Int32) (v4 : Int32) (J : Nat → Nat → Int32) (lw : Int64) : Prop :=
(if (J 0 2) ≤ v4 then (∀ x4 : Int32, x4 = v3 + 1 → X9 v2 x4 J lw) else (vp_in ((24 * v4) + v3) (tln 11) ∧ (∀ x6 : Int32, x6 = (J 11 (Int32.toNatClampNeg ((24 * v4) + v3))) → (wp_X3_bits x6 (fun r9 J7 l8 => (if r9 ≤ 1 then wj_X3_draw_97 p1 Φ X18 v2 v3 v4 x6 J7 l8 else (∀ x17 : Int32, x17 = ((v2 * 1103515245) + 12345) → (¬ r9 = 0 ∧ (∀ x19 : Int32, x19 = (((x17 >>> ((16 : Int32) &&& 31)) &&& 32767) - ((x17 >>> ((16 : Int32) &&& 31)) &&& 32767) / r9 * r9) → wl_X3_draw_77 p1 Φ X18 x17 v3 v4 x6 x19 J7 l8))))) J lw))))
def wl_X3_draw_18 (p1 : Int32) (Φ : (Nat → Nat → Int32) → Int64 → Prop) (X9 : Int32 → Int32 → (Nat → Nat → Int32) → Int64 → Prop) (v2 : Int32) (v3 : Int32) (v4 : Int32) (J : Nat → Nat → Int32) (lw : Int64) : Prop := ∀ X18 : Int32 → Int32 → Int32 → (Nat → Nat → Int32) → Int64 → Prop, (∀ v2 v3 v4 J lw, wf_X3_draw_18 p1 Φ X9 X18 v2 v3 v4 J lw → X18 v2 v3 v4 J lw) → X18 v2 v3 v4 J lw
theorem wk_X3_draw_18 {g : Gm} {d : TD} {t : Nat} (B : BdT g d prog_11_method_48_code 8 none 1 22) (p1 : Int32) (Φ : (Nat → Nat → Int32) → Int64 → Prop) (X9 : Int32 → Int32 → (Nat → Nat → Int32) → Int64 → Prop) (X18 : Int32 → Int32 → Int32 → (Nat → Nat → Int32) → Int64 → Prop) (hX9 : ∀ v2 v3 J lw, X9 v2 v3 J lw → GJ g 8 (TP d t J lw (gs g).heap) 0 (TQ g d t (ansV Φ)) 9 [(0, rv (t + 1)), (2, .int v2), (3, .int v3)] []) (hX18 : ∀ v2 v3 v4 J lw, X18 v2 v3 v4 J lw → GJ g 8 (TP d t J lw (gs g).heap) 0 (TQ g d t (ansV Φ)) 18 [(0, rv (t + 1)), (2, .int v2), (3, .int v3), (4, .int v4)] []) (v2 : Int32) (v3 : Int32) (v4 : Int32) (J : Nat → Nat → Int32) (lw : Int64) (hw : wf_X3_draw_18 p1 Φ X9 X18 v2 v3 v4 J lw) : GJ g 8 (TP d t J lw (gs g).heap) 0 (TQ g d t (ansV Φ)) 18 [(0, rv (t + 1)), (2, .int v2), (3, .int v3), (4, .int v4)] [] := by
  unfold wf_X3_draw_18 at hw
  have C := B.1
  have hW := B.2.1
  refine gj_iload C dX3_draw_18 3 rfl ?_
  refine gj_aload_n C dX3_draw_20 0 rfl ?_
  refine tg251 C hW dX3_draw_21 ?_
  refine gj_icmp_ge (tgt := 120) C dX3_draw_24 rfl (fun c3 => ?_) (fun c3 => ?_)
  · have hw := it_t hw c3
    obtain ⟨x4, ex4⟩ : ∃ x4 : Int32, x4 = v3 + 1 := ⟨_, rfl⟩
    have hw := hw x4 ex4
    refine gj_iinc (lc' := [(3, .int x4), (0, rv (t + 1)), (2, .int v2), (4, .int v4)]) (w := 1) (v := x4) C dX3_draw_120 2 rfl rfl ex4.symm (Nat.le_of_ble_eq_true rfl) rfl ?_
    refine gj_goto (tgt := 9) C dX3_draw_123 rfl ?_
    refine gj_sub (lc' := [(0, rv (t + 1)), (2, .int v2), (3, .int x4)]) [1, 2, 0] rfl ?_
    exact hX9 _ _ _ _ hw
  · have hw := it_f hw c3
    refine gj_aload_n C dX3_draw_27 0 rfl ?_
    refine tg28 C hW dX3_draw_28 ?_
    refine gj_bipush (v := 24) C dX3_draw_31 rfl ?_
    refine gj_iload C dX3_draw_33 3 rfl ?_
    refine gj_imul C dX3_draw_35 ?_
    refine gj_iload_n C dX3_draw_36 2 rfl ?_
    refine gj_iadd C dX3_draw_37 ?_
    obtain ⟨h5, hw⟩ := hw
    refine gt_iald C hW (by decide) h5 dX3_draw_38 ?_
    refine gj_topi (fun x6 ex6 => ?_)
    have hw := hw x6 ex6
    refine gj_istore (lc' := [(5, .int x6), (0, rv (t + 1)), (2, .int v2), (3, .int v3), (4, .int v4)]) C dX3_draw_39 (Nat.le_of_ble_eq_true rfl) rfl ?_
    refine gj_iload C dX3_draw_41 0 rfl ?_
    refine tc_X3_bits B hw (Nat.le_of_ble_eq_true rfl) (Nat.le_of_ble_eq_true rfl) (Nat.le_of_ble_eq_true rfl) dX3_draw_43 (fun r9 J7 l8 hw => ?_)
    refine gj_istore (lc' := [(6, .int r9), (5, .int x6), (0, rv (t + 1)), (2, .int v2), (3, .int v3), (4, .int v4)]) C dX3_draw_46 (Nat.le_of_ble_eq_true rfl) rfl ?_
    refine gj_iload C dX3_draw_48 0 rfl ?_
    refine gj_iconst (v := 1) C dX3_draw_50 rfl ?_
    refine gj_icmp_le (tgt := 97) C dX3_draw_51 rfl (fun c10 => ?_) (fun c10 => ?_)
    · have hw := it_t hw c10
      refine gj_sub (lc' := [(0, rv (t + 1)), (2, .int v2), (3, .int v3), (4, .int v4), (5, .int x6)]) [2, 3, 4, 5, 1] rfl ?_
      exact wq_X3_draw_97 B _ _ _ hX18 _ _ _ _ _ _ hw
    · have hw := it_f hw c10
      refine gj_iload_n C dX3_draw_54 3 rfl ?_
      refine gj_ldcw (v := 1103515245) C q1578 dX3_draw_55 ?_
      refine gj_imul C dX3_draw_58 ?_
      refine gj_sipush (v := 12345) C dX3_draw_59 rfl ?_
      refine gj_iadd C dX3_draw_62 ?_
      refine gj_topi (fun x17 ex17 => ?_)
      have hw := hw x17 ex17
      refine gj_istore_n (lc' := [(2, .int x17), (6, .int r9), (5, .int x6), (0, rv (t + 1)), (3, .int v3), (4, .int v4)]) C dX3_draw_63 (Nat.le_of_ble_eq_true rfl) rfl ?_
      refine gj_iload_n C dX3_draw_64 0 rfl ?_
      refine gj_bipush (v := 16) C dX3_draw_65 rfl ?_
      refine gj_ishr C dX3_draw_67 ?_
      refine gj_sipush (v := 32767) C dX3_draw_68 rfl ?_
      refine gj_iand C dX3_draw_71 ?_
      refine gj_iload C dX3_draw_72 1 rfl ?_
      obtain ⟨h18, hw⟩ := hw
      refine gj_irem C dX3_draw_74 h18 ?_
      refine gj_topi (fun x19 ex19 => ?_)
      have hw := hw x19 ex19
      refine gj_istore (lc' := [(7, .int x19), (2, .int x17), (6, .int r9), (5, .int x6), (0, rv (t + 1)), (3, .int v3), (4, .int v4)]) C dX3_draw_75 (Nat.le_of_ble_eq_true rfl) rfl ?_
      refine gj_sub (lc' := [(0, rv (t + 1)), (2, .int x17), (3, .int v3), (4, .int v4), (5, .int x6), (7, .int x19)]) [4, 1, 5, 6, 3, 0] rfl ?_
      exact wq_X3_draw_77 B _ _ _ hX18 _ _ _ _ _ _ _ hw

theorem wq_X3_draw_18 {g : Gm} {d : TD} {t : Nat} (B : BdT g d prog_11_method_48_code 8 none 1 22) (p1 : Int32) (Φ : (Nat → Nat → Int32) → Int64 → Prop) (X9 : Int32 → Int32 → (Nat → Nat → Int32) → Int64 → Prop) (hX9 : ∀ v2 v3 J lw, X9 v2 v3 J lw → GJ g 8 (TP d t J lw (gs g).heap) 0 (TQ g d t (ansV Φ)) 9 [(0, rv (t + 1)), (2, .int v2), (3, .int v3)] []) (v2 : Int32) (v3 : Int32) (v4 : Int32) (J : Nat → Nat → Int32) (lw : Int64) (hw : wl_X3_draw_18 p1 Φ X9 v2 v3 v4 J lw) : GJ g 8 (TP d t J lw (gs g).heap) 0 (TQ g d t (ansV Φ)) 18 [(0, rv (t + 1)), (2, .int v2), (3, .int v3), (4, .int v4)] [] :=
  hw (fun v2 v3 v4 J lw => GJ g 8 (TP d t J lw (gs g).heap) 0 (TQ g d t (ansV Φ)) 18 [(0, rv (t + 1)), (2, .int v2), (3, .int v3), (4, .int v4)] []) (fun v2 v3 v4 J lw h => wk_X3_draw_18 B p1 Φ X9 (fun v2 v3 v4 J lw => GJ g 8 (TP d t J lw (gs g).heap) 0 (TQ g d t (ansV Φ)) 18 [(0, rv (t + 1)), (2, .int v2), (3, .int v3), (4, .int v4)] []) hX9 (fun v2 v3 v4 J lw h => h) v2 v3 v4 J lw h)
def wf_X3_draw_9 (p1 : Int32) (Φ : (Nat → Nat → Int32) → Int64 → Prop) (X9 : Int32 → Int32 → (Nat → Nat → Int32) → Int64 → Prop) (v2 : Int32) (v3 : Int32) (J : Nat → Nat → Int32) (lw : Int64) : Prop :=
(if 24 ≤ v3 then Φ J lw else wl_X3_draw_18 p1 Φ X9 v2 v3 0 J lw)
def wl_X3_draw_9 (p1 : Int32) (Φ : (Nat → Nat → Int32) → Int64 → Prop) (v2 : Int32) (v3 : Int32) (J : Nat → Nat → Int32) (lw : Int64) : Prop := ∀ X9 : Int32 → Int32 → (Nat → Nat → Int32) → Int64 → Prop, (∀ v2 v3 J lw, wf_X3_draw_9 p1 Φ X9 v2 v3 J lw → X9 v2 v3 J lw) → X9 v2 v3 J lw
theorem wk_X3_draw_9 {g : Gm} {d : TD} {t : Nat} (B : BdT g d prog_11_method_48_code 8 none 1 22) (p1 : Int32) (Φ : (Nat → Nat → Int32) → Int64 → Prop) (X9 : Int32 → Int32 → (Nat → Nat → Int32) → Int64 → Prop) (hX9 : ∀ v2 v3 J lw, X9 v2 v3 J lw → GJ g 8 (TP d t J lw (gs g).heap) 0 (TQ g d t (ansV Φ)) 9 [(0, rv (t + 1)), (2, .int v2), (3, .int v3)] []) (v2 : Int32) (v3 : Int32) (J : Nat → Nat → Int32) (lw : Int64) (hw : wf_X3_draw_9 p1 Φ X9 v2 v3 J lw) : GJ g 8 (TP d t J lw (gs g).heap) 0 (TQ g d t (ansV Φ)) 9 [(0, rv (t + 1)), (2, .int v2), (3, .int v3)] [] := by
  unfold wf_X3_draw_9 at hw
  have C := B.1
  have hW := B.2.1
  refine gj_iload_n C dX3_draw_9 2 rfl ?_
  refine gj_bipush (v := 24) C dX3_draw_10 rfl ?_
  refine gj_icmp_ge (tgt := 126) C dX3_draw_12 rfl (fun c2 => ?_) (fun c2 => ?_)
  · have hw := it_t hw c2
    exact gt_vret B hw dX3_draw_126
  · have hw := it_f hw c2
    refine gj_iconst (v := 0) C dX3_draw_15 rfl ?_
    refine gj_istore (lc' := [(4, .int 0), (0, rv (t + 1)), (2, .int v2), (3, .int v3)]) C dX3_draw_16 (Nat.le_of_ble_eq_true rfl) rfl ?_
    refine gj_sub (lc' := [(0, rv (t + 1)), (2, .int v2), (3, .int v3), (4, .int 0)]) [1, 2, 3, 0] rfl ?_
    exact wq_X3_draw_18 B _ _ _ hX9 _ _ _ _ _ hw

theorem wq_X3_draw_9 {g : Gm} {d : TD} {t : Nat} (B : BdT g d prog_11_method_48_code 8 none 1 22) (p1 : Int32) (Φ : (Nat → Nat → Int32) → Int64 → Prop) (v2 : Int32) (v3 : Int32) (J : Nat → Nat → Int32) (lw : Int64) (hw : wl_X3_draw_9 p1 Φ v2 v3 J lw) : GJ g 8 (TP d t J lw (gs g).heap) 0 (TQ g d t (ansV Φ)) 9 [(0, rv (t + 1)), (2, .int v2), (3, .int v3)] [] :=
  hw (fun v2 v3 J lw => GJ g 8 (TP d t J lw (gs g).heap) 0 (TQ g d t (ansV Φ)) 9 [(0, rv (t + 1)), (2, .int v2), (3, .int v3)] []) (fun v2 v3 J lw h => wk_X3_draw_9 B p1 Φ (fun v2 v3 J lw => GJ g 8 (TP d t J lw (gs g).heap) 0 (TQ g d t (ansV Φ)) 9 [(0, rv (t + 1)), (2, .int v2), (3, .int v3)] []) (fun v2 v3 J lw h => h) v2 v3 J lw h)
def wp_X3_draw (p1 : Int32) (Φ : (Nat → Nat → Int32) → Int64 → Prop) (J : Nat → Nat → Int32) (lw : Int64) : Prop :=
(∀ J1 : Nat → Nat → Int32, J1 = u2 J 0 0 0 → wl_X3_draw_9 p1 Φ p1 0 J1 lw)
theorem wk_X3_draw {g : Gm} {d : TD} {t : Nat} (B : BdT g d prog_11_method_48_code 8 none 1 22) (p1 : Int32) (Φ : (Nat → Nat → Int32) → Int64 → Prop) (J : Nat → Nat → Int32) (lw : Int64) (hw : wp_X3_draw p1 Φ J lw) : GJ g 8 (TP d t J lw (gs g).heap) 0 (TQ g d t (ansV Φ)) 0 [(0, rv (t + 1)), (1, .int p1)] [] := by
  unfold wp_X3_draw at hw
  have C := B.1
  have hW := B.2.1
  refine gj_aload_n C dX3_draw_0 0 rfl ?_
  refine gj_iconst (v := 0) C dX3_draw_1 rfl ?_
  refine tp134 C hW dX3_draw_2 ?_
  refine gt_nmJ (fun J1 eJ1 => ?_)
  have hw := hw J1 eJ1
  refine gj_iload_n C dX3_draw_5 1 rfl ?_
  refine gj_istore_n (lc' := [(2, .int p1), (0, rv (t + 1)), (1, .int p1)]) C dX3_draw_6 (Nat.le_of_ble_eq_true rfl) rfl ?_
  refine gj_iconst (v := 0) C dX3_draw_7 rfl ?_
  refine gj_istore_n (lc' := [(3, .int 0), (2, .int p1), (0, rv (t + 1)), (1, .int p1)]) C dX3_draw_8 (Nat.le_of_ble_eq_true rfl) rfl ?_
  refine gj_sub (lc' := [(0, rv (t + 1)), (2, .int p1), (3, .int 0)]) [2, 1, 0] rfl ?_
  exact wq_X3_draw_9 B _ _ _ _ _ _ hw

theorem met_X3_draw (l : Launch) {d : TD} {t : Nat} {J : Nat → Nat → Int32} {lw : Int64} {p1 : Int32} {Φ : (Nat → Nat → Int32) → Int64 → Prop} (hw : wp_X3_draw p1 Φ J lw) : MetT l yX3_draw prog_11_method_48_code 8 none 1 22 [.ref t, .int p1] d t J lw (ansV Φ) :=
  mt_of (by decide +kernel) rfl (Nat.le_of_ble_eq_true rfl) (fun g _ B => wk_X3_draw B _ _ J lw hw)
/-! does(II)I -/
def wp_X3_does (p1 : Int32) (p2 : Int32) (Φ : Int32 → (Nat → Nat → Int32) → Int64 → Prop) (J : Nat → Nat → Int32) (lw : Int64) : Prop :=
(∀ J1 : Nat → Nat → Int32, J1 = u2 J 0 0 0 → (wp_X3_isLodger p1 (fun r4 J2 l3 => (if r4 = 0 then Φ 0 J2 l3 else (wp_X3_isHour p2 (fun r8 J6 l7 => (if r8 = 0 then Φ 0 J6 l7 else (vp_in ((24 * p1) + p2) (tln 38) ∧ (wp_X3_toldOf (J6 38 (Int32.toNatClampNeg ((24 * p1) + p2))) (fun r13 J11 l12 => Φ r13 J11 l12) J6 l7)))) J2 l3))) J1 lw))
theorem wk_X3_does {g : Gm} {d : TD} {t : Nat} (B : BdT g d prog_11_method_49_code 3 (some .int) 2 43) (p1 : Int32) (p2 : Int32) (Φ : Int32 → (Nat → Nat → Int32) → Int64 → Prop) (J : Nat → Nat → Int32) (lw : Int64) (hw : wp_X3_does p1 p2 Φ J lw) : GJ g 3 (TP d t J lw (gs g).heap) 0 (TQ g d t (ansI Φ)) 0 [(0, rv (t + 1)), (1, .int p1), (2, .int p2)] [] := by
  unfold wp_X3_does at hw
  have C := B.1
  have hW := B.2.1
  refine gj_aload_n C dX3_does_0 0 rfl ?_
  refine gj_iconst (v := 0) C dX3_does_1 rfl ?_
  refine tp134 C hW dX3_does_2 ?_
  refine gt_nmJ (fun J1 eJ1 => ?_)
  have hw := hw J1 eJ1
  refine gj_aload_n C dX3_does_5 0 rfl ?_
  refine gj_iload_n C dX3_does_6 1 rfl ?_
  refine tc_X3_isLodger B hw (Nat.le_of_ble_eq_true rfl) (Nat.le_of_ble_eq_true rfl) (Nat.le_of_ble_eq_true rfl) dX3_does_7 (fun r4 J2 l3 br4 hw => ?_)
  refine gj_if_eq (tgt := 38) C dX3_does_10 rfl (fun c5 => ?_) (fun c5 => ?_)
  · have hw := it_t hw c5
    refine gj_iconst (v := 0) C dX3_does_38 rfl ?_
    exact gt_iret B hw dX3_does_39
  · have hw := it_f hw c5
    refine gj_aload_n C dX3_does_13 0 rfl ?_
    refine gj_iload_n C dX3_does_14 2 rfl ?_
    refine tc_X3_isHour B hw (Nat.le_of_ble_eq_true rfl) (Nat.le_of_ble_eq_true rfl) (Nat.le_of_ble_eq_true rfl) dX3_does_15 (fun r8 J6 l7 br8 hw => ?_)
    refine gj_if_eq (tgt := 38) C dX3_does_18 rfl (fun c9 => ?_) (fun c9 => ?_)
    · have hw := it_t hw c9
      refine gj_iconst (v := 0) C dX3_does_38 rfl ?_
      exact gt_iret B hw dX3_does_39
    · have hw := it_f hw c9
      refine gj_aload_n C dX3_does_21 0 rfl ?_
      refine tg65 C hW dX3_does_22 ?_
      refine gj_bipush (v := 24) C dX3_does_25 rfl ?_
      refine gj_iload_n C dX3_does_27 1 rfl ?_
      refine gj_imul C dX3_does_28 ?_
      refine gj_iload_n C dX3_does_29 2 rfl ?_
      refine gj_iadd C dX3_does_30 ?_
      obtain ⟨h10, hw⟩ := hw
      refine gt_iald C hW (by decide) h10 dX3_does_31 ?_
      refine tc_X3_toldOf B hw (Nat.le_of_ble_eq_true rfl) (Nat.le_of_ble_eq_true rfl) (Nat.le_of_ble_eq_true rfl) dX3_does_32 (fun r13 J11 l12 hw => ?_)
      refine gj_goto (tgt := 39) C dX3_does_35 rfl ?_
      exact gt_iret B hw dX3_does_39

theorem met_X3_does (l : Launch) {d : TD} {t : Nat} {J : Nat → Nat → Int32} {lw : Int64} {p1 : Int32} {p2 : Int32} {Φ : Int32 → (Nat → Nat → Int32) → Int64 → Prop} (hw : wp_X3_does p1 p2 Φ J lw) : MetT l yX3_does prog_11_method_49_code 3 (some .int) 2 43 [.ref t, .int p1, .int p2] d t J lw (ansI Φ) :=
  mt_of (by decide +kernel) rfl (Nat.le_of_ble_eq_true rfl) (fun g _ B => wk_X3_does B _ _ _ J lw hw)
/-! signAt(II)I -/
def wp_X3_signAt (p1 : Int32) (p2 : Int32) (Φ : Int32 → (Nat → Nat → Int32) → Int64 → Prop) (J : Nat → Nat → Int32) (lw : Int64) : Prop :=
(vp_in p1 (tln 6) ∧ (if (J 6 (Int32.toNatClampNeg p1)) = (-1) then Φ 3 J lw else (vp_in p1 (tln 6) ∧ (vp_in p1 (tln 6) ∧ (vp_in ((24 * (J 6 (Int32.toNatClampNeg p1))) + p2) (tln 38) ∧ (wp_X3_signOf (J 6 (Int32.toNatClampNeg p1)) (J 38 (Int32.toNatClampNeg ((24 * (J 6 (Int32.toNatClampNeg p1))) + p2))) (fun r8 J6 l7 => Φ r8 J6 l7) J lw))))))
theorem wk_X3_signAt {g : Gm} {d : TD} {t : Nat} (B : BdT g d prog_11_method_50_code 3 (some .int) 3 67) (p1 : Int32) (p2 : Int32) (Φ : Int32 → (Nat → Nat → Int32) → Int64 → Prop) (J : Nat → Nat → Int32) (lw : Int64) (hw : wp_X3_signAt p1 p2 Φ J lw) : GJ g 3 (TP d t J lw (gs g).heap) 0 (TQ g d t (ansI Φ)) 0 [(0, rv (t + 1)), (1, .int p1), (2, .int p2)] [] := by
  unfold wp_X3_signAt at hw
  have C := B.1
  have hW := B.2.1
  refine gj_aload_n C dX3_signAt_0 0 rfl ?_
  refine tg13 C hW dX3_signAt_1 ?_
  refine gj_iload_n C dX3_signAt_4 1 rfl ?_
  obtain ⟨h1, hw⟩ := hw
  refine gt_iald C hW (by decide) h1 dX3_signAt_5 ?_
  refine gj_iconst (v := (-1)) C dX3_signAt_6 rfl ?_
  refine gj_icmp_ne (tgt := 14) C dX3_signAt_7 rfl (fun c2 => ?_) (fun c2 => ?_)
  · have hw := it_f hw c2
    refine gj_aload_n C dX3_signAt_14 0 rfl ?_
    refine gj_aload_n C dX3_signAt_15 0 rfl ?_
    refine tg13 C hW dX3_signAt_16 ?_
    refine gj_iload_n C dX3_signAt_19 1 rfl ?_
    obtain ⟨h3, hw⟩ := hw
    refine gt_iald C hW (by decide) h3 dX3_signAt_20 ?_
    refine gj_aload_n C dX3_signAt_21 0 rfl ?_
    refine tg65 C hW dX3_signAt_22 ?_
    refine gj_bipush (v := 24) C dX3_signAt_25 rfl ?_
    refine gj_aload_n C dX3_signAt_27 0 rfl ?_
    refine tg13 C hW dX3_signAt_28 ?_
    refine gj_iload_n C dX3_signAt_31 1 rfl ?_
    obtain ⟨h4, hw⟩ := hw
    refine gt_iald C hW (by decide) h4 dX3_signAt_32 ?_
    refine gj_imul C dX3_signAt_33 ?_
    refine gj_iload_n C dX3_signAt_34 2 rfl ?_
    refine gj_iadd C dX3_signAt_35 ?_
    obtain ⟨h5, hw⟩ := hw
    refine gt_iald C hW (by decide) h5 dX3_signAt_36 ?_
    refine tc_X3_signOf B hw (Nat.le_of_ble_eq_true rfl) (Nat.le_of_ble_eq_true rfl) (Nat.le_of_ble_eq_true rfl) dX3_signAt_37 (fun r8 J6 l7 hw => ?_)
    exact gt_iret B hw dX3_signAt_40
  · have hw := it_t hw c2
    refine gj_iconst (v := 3) C dX3_signAt_10 rfl ?_
    refine gj_goto (tgt := 40) C dX3_signAt_11 rfl ?_
    exact gt_iret B hw dX3_signAt_40

theorem met_X3_signAt (l : Launch) {d : TD} {t : Nat} {J : Nat → Nat → Int32} {lw : Int64} {p1 : Int32} {p2 : Int32} {Φ : Int32 → (Nat → Nat → Int32) → Int64 → Prop} (hw : wp_X3_signAt p1 p2 Φ J lw) : MetT l yX3_signAt prog_11_method_50_code 3 (some .int) 3 67 [.ref t, .int p1, .int p2] d t J lw (ansI Φ) :=
  mt_of (by decide +kernel) rfl (Nat.le_of_ble_eq_true rfl) (fun g _ B => wk_X3_signAt B _ _ _ J lw hw)
theorem tc_X3_signAt {g : Gm} {d : TD} {t : Nat} {cc : ByteArray} {nL : Nat} {ret : Option FieldType} {fr lo : Nat} (B : BdT g d cc nL ret fr lo) {J : Nat → Nat → Int32} {lw : Int64} {H0 : Heap} {Q : State → Prop} {pc : Nat} {lc : List (Nat × Value)} {rest : List Value} {p1 : Int32} {p2 : Int32} {Φ : Int32 → (Nat → Nat → Int32) → Int64 → Prop} (hw : wp_X3_signAt p1 p2 Φ J lw) (hf : 4 ≤ fr) (hlo : 89 ≤ lo) (hrest : (rest.map fun v => v.category).sum ≤ 8) (dg : decode cc pc = .ok (.invokevirtual 321, 3)) (k : ∀ (r : Int32) J' lw', Φ r J' lw' → GJ g nL (TP d t J' lw' H0) 0 Q (pc + 3) lc (.int r :: rest)) : GJ g nL (TP d t J lw H0) 0 Q pc lc (.int p2 :: .int p1 :: rv (t + 1) :: rest) :=
  gt_callV (n := 2) (As := [.int p1, .int p2]) B (met_X3_signAt g.2.1 hw) (lw_V q1587 q1589 qs65 q97 q1590) ⟨rfl, by decide +kernel, by decide +kernel, by decide +kernel⟩ rfl hf hlo ⟨Nat.zero_le _, Nat.zero_le _⟩ rfl hrest dg (fun v J' lw' hp => by obtain ⟨r, rfl, hp⟩ := hp; exact k r J' lw' hp)
/-! sign(II)I -/
def wp_X3_sign (p1 : Int32) (p2 : Int32) (Φ : Int32 → (Nat → Nat → Int32) → Int64 → Prop) (J : Nat → Nat → Int32) (lw : Int64) : Prop :=
(∀ J1 : Nat → Nat → Int32, J1 = u2 J 0 0 0 → (wp_X3_isRoom p1 (fun r4 J2 l3 => (if r4 = 0 then Φ 0 J2 l3 else (wp_X3_isHour p2 (fun r8 J6 l7 => (if r8 = 0 then Φ 0 J6 l7 else (wp_X3_signAt p1 p2 (fun r12 J10 l11 => Φ r12 J10 l11) J6 l7))) J2 l3))) J1 lw))
theorem wk_X3_sign {g : Gm} {d : TD} {t : Nat} (B : BdT g d prog_11_method_51_code 3 (some .int) 4 89) (p1 : Int32) (p2 : Int32) (Φ : Int32 → (Nat → Nat → Int32) → Int64 → Prop) (J : Nat → Nat → Int32) (lw : Int64) (hw : wp_X3_sign p1 p2 Φ J lw) : GJ g 3 (TP d t J lw (gs g).heap) 0 (TQ g d t (ansI Φ)) 0 [(0, rv (t + 1)), (1, .int p1), (2, .int p2)] [] := by
  unfold wp_X3_sign at hw
  have C := B.1
  have hW := B.2.1
  refine gj_aload_n C dX3_sign_0 0 rfl ?_
  refine gj_iconst (v := 0) C dX3_sign_1 rfl ?_
  refine tp134 C hW dX3_sign_2 ?_
  refine gt_nmJ (fun J1 eJ1 => ?_)
  have hw := hw J1 eJ1
  refine gj_aload_n C dX3_sign_5 0 rfl ?_
  refine gj_iload_n C dX3_sign_6 1 rfl ?_
  refine tc_X3_isRoom B hw (Nat.le_of_ble_eq_true rfl) (Nat.le_of_ble_eq_true rfl) (Nat.le_of_ble_eq_true rfl) dX3_sign_7 (fun r4 J2 l3 br4 hw => ?_)
  refine gj_if_eq (tgt := 30) C dX3_sign_10 rfl (fun c5 => ?_) (fun c5 => ?_)
  · have hw := it_t hw c5
    refine gj_iconst (v := 0) C dX3_sign_30 rfl ?_
    exact gt_iret B hw dX3_sign_31
  · have hw := it_f hw c5
    refine gj_aload_n C dX3_sign_13 0 rfl ?_
    refine gj_iload_n C dX3_sign_14 2 rfl ?_
    refine tc_X3_isHour B hw (Nat.le_of_ble_eq_true rfl) (Nat.le_of_ble_eq_true rfl) (Nat.le_of_ble_eq_true rfl) dX3_sign_15 (fun r8 J6 l7 br8 hw => ?_)
    refine gj_if_eq (tgt := 30) C dX3_sign_18 rfl (fun c9 => ?_) (fun c9 => ?_)
    · have hw := it_t hw c9
      refine gj_iconst (v := 0) C dX3_sign_30 rfl ?_
      exact gt_iret B hw dX3_sign_31
    · have hw := it_f hw c9
      refine gj_aload_n C dX3_sign_21 0 rfl ?_
      refine gj_iload_n C dX3_sign_22 1 rfl ?_
      refine gj_iload_n C dX3_sign_23 2 rfl ?_
      refine tc_X3_signAt B hw (Nat.le_of_ble_eq_true rfl) (Nat.le_of_ble_eq_true rfl) (Nat.le_of_ble_eq_true rfl) dX3_sign_24 (fun r12 J10 l11 hw => ?_)
      refine gj_goto (tgt := 31) C dX3_sign_27 rfl ?_
      exact gt_iret B hw dX3_sign_31

theorem met_X3_sign (l : Launch) {d : TD} {t : Nat} {J : Nat → Nat → Int32} {lw : Int64} {p1 : Int32} {p2 : Int32} {Φ : Int32 → (Nat → Nat → Int32) → Int64 → Prop} (hw : wp_X3_sign p1 p2 Φ J lw) : MetT l yX3_sign prog_11_method_51_code 3 (some .int) 4 89 [.ref t, .int p1, .int p2] d t J lw (ansI Φ) :=
  mt_of (by decide +kernel) rfl (Nat.le_of_ble_eq_true rfl) (fun g _ B => wk_X3_sign B _ _ _ J lw hw)
/-! isFinder(I)Z -/
def wp_X3_isFinder (p1 : Int32) (Φ : Int32 → (Nat → Nat → Int32) → Int64 → Prop) (J : Nat → Nat → Int32) (lw : Int64) : Prop :=
(∀ x1 : Int32, x1 = (if p1 < 0 then 0 else (if (J 0 3) ≤ p1 then 0 else 1)) → (wp_X3_right x1 1 (fun r6 J4 l5 => Φ r6 J4 l5) J lw))
theorem wk_X3_isFinder {g : Gm} {d : TD} {t : Nat} (B : BdT g d prog_11_method_33_code 2 (some .boolean) 1 22) (p1 : Int32) (Φ : Int32 → (Nat → Nat → Int32) → Int64 → Prop) (J : Nat → Nat → Int32) (lw : Int64) (hw : wp_X3_isFinder p1 Φ J lw) : GJ g 2 (TP d t J lw (gs g).heap) 0 (TQ g d t (ansZ Φ)) 0 [(0, rv (t + 1)), (1, .int p1)] [] := by
  unfold wp_X3_isFinder at hw
  have C := B.1
  have hW := B.2.1
  refine gj_aload_n C dX3_isFinder_0 0 rfl ?_
  refine gj_iload_n C dX3_isFinder_1 1 rfl ?_
  have key : ∀ x1 : Int32, x1 = (if p1 < 0 then 0 else (if (J 0 3) ≤ p1 then 0 else 1)) → GJ g 2 (TP d t J lw (gs g).heap) 0 (TQ g d t (ansZ Φ)) 18 [(0, rv (t + 1)), (1, .int p1)] [.int x1, rv (t + 1)] → GJ g 2 (TP d t J lw (gs g).heap) 0 (TQ g d t (ansZ Φ)) 2 [(0, rv (t + 1)), (1, .int p1)] [.int p1, rv (t + 1)] := by
    intro x1 ex1 kk
    refine gj_if_lt (tgt := 17) C dX3_isFinder_2 rfl (fun c2 => ?_) (fun c2 => ?_)
    · refine gj_iconst (v := 0) C dX3_isFinder_17 rfl ?_
      rw [if_pos c2] at ex1
      subst ex1
      exact kk
    · refine gj_iload_n C dX3_isFinder_5 1 rfl ?_
      refine gj_aload_n C dX3_isFinder_6 0 rfl ?_
      refine tg254 C hW dX3_isFinder_7 ?_
      refine gj_icmp_ge (tgt := 17) C dX3_isFinder_10 rfl (fun c3 => ?_) (fun c3 => ?_)
      · refine gj_iconst (v := 0) C dX3_isFinder_17 rfl ?_
        rw [if_neg c2, if_pos c3] at ex1
        subst ex1
        exact kk
      · refine gj_iconst (v := 1) C dX3_isFinder_13 rfl ?_
        refine gj_goto (tgt := 18) C dX3_isFinder_14 rfl ?_
        rw [if_neg c2, if_neg c3] at ex1
        subst ex1
        exact kk
  obtain ⟨x1, ex1⟩ : ∃ x1 : Int32, x1 = (if p1 < 0 then 0 else (if (J 0 3) ≤ p1 then 0 else 1)) := ⟨_, rfl⟩
  have bx1 : x1 = 0 ∨ x1 = 1 := by rw [ex1]; (repeat' split) <;> simp
  refine key x1 ex1 ?_
  have hw := hw x1 ex1
  clear key
  refine gj_iconst (v := 1) C dX3_isFinder_18 rfl ?_
  refine tc_X3_right B hw (Nat.le_of_ble_eq_true rfl) (Nat.le_of_ble_eq_true rfl) (Nat.le_of_ble_eq_true rfl) dX3_isFinder_19 (fun r6 J4 l5 br6 hw => ?_)
  exact gt_zret B (br6) hw dX3_isFinder_22

theorem met_X3_isFinder (l : Launch) {d : TD} {t : Nat} {J : Nat → Nat → Int32} {lw : Int64} {p1 : Int32} {Φ : Int32 → (Nat → Nat → Int32) → Int64 → Prop} (hw : wp_X3_isFinder p1 Φ J lw) : MetT l yX3_isFinder prog_11_method_33_code 2 (some .boolean) 1 22 [.ref t, .int p1] d t J lw (ansZ Φ) :=
  mt_of (by decide +kernel) rfl (Nat.le_of_ble_eq_true rfl) (fun g _ B => wk_X3_isFinder B _ _ J lw hw)
theorem tc_X3_isFinder {g : Gm} {d : TD} {t : Nat} {cc : ByteArray} {nL : Nat} {ret : Option FieldType} {fr lo : Nat} (B : BdT g d cc nL ret fr lo) {J : Nat → Nat → Int32} {lw : Int64} {H0 : Heap} {Q : State → Prop} {pc : Nat} {lc : List (Nat × Value)} {rest : List Value} {p1 : Int32} {Φ : Int32 → (Nat → Nat → Int32) → Int64 → Prop} (hw : wp_X3_isFinder p1 Φ J lw) (hf : 2 ≤ fr) (hlo : 43 ≤ lo) (hrest : (rest.map fun v => v.category).sum ≤ 8) (dg : decode cc pc = .ok (.invokevirtual 324, 3)) (k : ∀ (r : Int32) J' lw', (r = 0 ∨ r = 1) → Φ r J' lw' → GJ g nL (TP d t J' lw' H0) 0 Q (pc + 3) lc (.int r :: rest)) : GJ g nL (TP d t J lw H0) 0 Q pc lc (.int p1 :: rv (t + 1) :: rest) :=
  gt_callV (n := 1) (As := [.int p1]) B (met_X3_isFinder g.2.1 hw) (lw_V q1595 q1597 qs66 q97 q1598) ⟨rfl, by decide +kernel, by decide +kernel, by decide +kernel⟩ rfl hf hlo ⟨Nat.zero_le _, Nat.zero_le _⟩ rfl hrest dg (fun v J' lw' hp => by obtain ⟨r, rfl, hb, hp⟩ := hp; exact k r J' lw' hb hp)
/-! look(III)I -/
def wp_X3_look (p1 : Int32) (p2 : Int32) (p3 : Int32) (Φ : Int32 → (Nat → Nat → Int32) → Int64 → Prop) (J : Nat → Nat → Int32) (lw : Int64) : Prop :=
(∀ J1 : Nat → Nat → Int32, J1 = u2 J 0 0 0 → (wp_X3_isFinder p1 (fun r4 J2 l3 => (if r4 = 0 then Φ 0 J2 l3 else (wp_X3_isHour p2 (fun r8 J6 l7 => (if r8 = 0 then Φ 0 J6 l7 else (wp_X3_isRoom p3 (fun r12 J10 l11 => (if r12 = 0 then Φ 0 J10 l11 else (vp_in ((24 * p1) + p2) (tln 39) ∧ (∀ x15 : Int32, x15 = (J10 39 (Int32.toNatClampNeg ((24 * p1) + p2))) → (vp_in ((24 * p1) + p2) (tln 39) ∧ (∀ J17 : Nat → Nat → Int32, J17 = u2 J10 39 (Int32.toNatClampNeg ((24 * p1) + p2)) p3 → Φ x15 J17 l11)))))) J6 l7))) J2 l3))) J1 lw))
theorem wk_X3_look {g : Gm} {d : TD} {t : Nat} (B : BdT g d prog_11_method_52_code 5 (some .int) 2 43) (p1 : Int32) (p2 : Int32) (p3 : Int32) (Φ : Int32 → (Nat → Nat → Int32) → Int64 → Prop) (J : Nat → Nat → Int32) (lw : Int64) (hw : wp_X3_look p1 p2 p3 Φ J lw) : GJ g 5 (TP d t J lw (gs g).heap) 0 (TQ g d t (ansI Φ)) 0 [(0, rv (t + 1)), (1, .int p1), (2, .int p2), (3, .int p3)] [] := by
  unfold wp_X3_look at hw
  have C := B.1
  have hW := B.2.1
  refine gj_aload_n C dX3_look_0 0 rfl ?_
  refine gj_iconst (v := 0) C dX3_look_1 rfl ?_
  refine tp134 C hW dX3_look_2 ?_
  refine gt_nmJ (fun J1 eJ1 => ?_)
  have hw := hw J1 eJ1
  refine gj_aload_n C dX3_look_5 0 rfl ?_
  refine gj_iload_n C dX3_look_6 1 rfl ?_
  refine tc_X3_isFinder B hw (Nat.le_of_ble_eq_true rfl) (Nat.le_of_ble_eq_true rfl) (Nat.le_of_ble_eq_true rfl) dX3_look_7 (fun r4 J2 l3 br4 hw => ?_)
  refine gj_if_eq (tgt := 29) C dX3_look_10 rfl (fun c5 => ?_) (fun c5 => ?_)
  · have hw := it_t hw c5
    refine gj_iconst (v := 0) C dX3_look_29 rfl ?_
    exact gt_iret B hw dX3_look_30
  · have hw := it_f hw c5
    refine gj_aload_n C dX3_look_13 0 rfl ?_
    refine gj_iload_n C dX3_look_14 2 rfl ?_
    refine tc_X3_isHour B hw (Nat.le_of_ble_eq_true rfl) (Nat.le_of_ble_eq_true rfl) (Nat.le_of_ble_eq_true rfl) dX3_look_15 (fun r8 J6 l7 br8 hw => ?_)
    refine gj_if_eq (tgt := 29) C dX3_look_18 rfl (fun c9 => ?_) (fun c9 => ?_)
    · have hw := it_t hw c9
      refine gj_iconst (v := 0) C dX3_look_29 rfl ?_
      exact gt_iret B hw dX3_look_30
    · have hw := it_f hw c9
      refine gj_aload_n C dX3_look_21 0 rfl ?_
      refine gj_iload_n C dX3_look_22 3 rfl ?_
      refine tc_X3_isRoom B hw (Nat.le_of_ble_eq_true rfl) (Nat.le_of_ble_eq_true rfl) (Nat.le_of_ble_eq_true rfl) dX3_look_23 (fun r12 J10 l11 br12 hw => ?_)
      refine gj_if_ne (tgt := 31) C dX3_look_26 rfl (fun c13 => ?_) (fun c13 => ?_)
      · have hw := it_f hw c13
        refine gj_aload_n C dX3_look_31 0 rfl ?_
        refine tg68 C hW dX3_look_32 ?_
        refine gj_bipush (v := 24) C dX3_look_35 rfl ?_
        refine gj_iload_n C dX3_look_37 1 rfl ?_
        refine gj_imul C dX3_look_38 ?_
        refine gj_iload_n C dX3_look_39 2 rfl ?_
        refine gj_iadd C dX3_look_40 ?_
        obtain ⟨h14, hw⟩ := hw
        refine gt_iald C hW (by decide) h14 dX3_look_41 ?_
        refine gj_topi (fun x15 ex15 => ?_)
        have hw := hw x15 ex15
        refine gj_istore (lc' := [(4, .int x15), (0, rv (t + 1)), (1, .int p1), (2, .int p2), (3, .int p3)]) C dX3_look_42 (Nat.le_of_ble_eq_true rfl) rfl ?_
        refine gj_aload_n C dX3_look_44 1 rfl ?_
        refine tg68 C hW dX3_look_45 ?_
        refine gj_bipush (v := 24) C dX3_look_48 rfl ?_
        refine gj_iload_n C dX3_look_50 2 rfl ?_
        refine gj_imul C dX3_look_51 ?_
        refine gj_iload_n C dX3_look_52 3 rfl ?_
        refine gj_iadd C dX3_look_53 ?_
        refine gj_iload_n C dX3_look_54 4 rfl ?_
        obtain ⟨h16, hw⟩ := hw
        refine gt_iast C hW (by decide) h16 dX3_look_55 ?_
        refine gt_nmJ (fun J17 eJ17 => ?_)
        have hw := hw J17 eJ17
        refine gj_iload C dX3_look_56 0 rfl ?_
        exact gt_iret B hw dX3_look_58
      · have hw := it_t hw c13
        refine gj_iconst (v := 0) C dX3_look_29 rfl ?_
        exact gt_iret B hw dX3_look_30

theorem met_X3_look (l : Launch) {d : TD} {t : Nat} {J : Nat → Nat → Int32} {lw : Int64} {p1 : Int32} {p2 : Int32} {p3 : Int32} {Φ : Int32 → (Nat → Nat → Int32) → Int64 → Prop} (hw : wp_X3_look p1 p2 p3 Φ J lw) : MetT l yX3_look prog_11_method_52_code 5 (some .int) 2 43 [.ref t, .int p1, .int p2, .int p3] d t J lw (ansI Φ) :=
  mt_of (by decide +kernel) rfl (Nat.le_of_ble_eq_true rfl) (fun g _ B => wk_X3_look B _ _ _ _ J lw hw)
/-! theft(II)I -/
def wf_X3_theft_55 (p1 : Int32) (p2 : Int32) (Φ : Int32 → (Nat → Nat → Int32) → Int64 → Prop) (X25 : Int32 → (Nat → Nat → Int32) → Int64 → Prop) (X55 : Int32 → Int32 → (Nat → Nat → Int32) → Int64 → Prop) (v3 : Int32) (v4 : Int32) (J : Nat → Nat → Int32) (lw : Int64) : Prop :=
(if (J 0 3) ≤ v4 then (∀ x18 : Int32, x18 = v3 + 1 → X25 x18 J lw) else (vp_in ((24 * v4) + v3) (tln 39) ∧ (if (J 39 (Int32.toNatClampNeg ((24 * v4) + v3))) = p1 then (∀ x22 : Int32, x22 = (if p2 = 0 then v4 else v3) → Φ x22 J lw) else (∀ x21 : Int32, x21 = v4 + 1 → X55 v3 x21 J lw))))
def wl_X3_theft_55 (p1 : Int32) (p2 : Int32) (Φ : Int32 → (Nat → Nat → Int32) → Int64 → Prop) (X25 : Int32 → (Nat → Nat → Int32) → Int64 → Prop) (v3 : Int32) (v4 : Int32) (J : Nat → Nat → Int32) (lw : Int64) : Prop := ∀ X55 : Int32 → Int32 → (Nat → Nat → Int32) → Int64 → Prop, (∀ v3 v4 J lw, wf_X3_theft_55 p1 p2 Φ X25 X55 v3 v4 J lw → X55 v3 v4 J lw) → X55 v3 v4 J lw
theorem wk_X3_theft_55 {g : Gm} {d : TD} {t : Nat} (B : BdT g d prog_11_method_53_code 5 (some .int) 4 89) (p1 : Int32) (p2 : Int32) (Φ : Int32 → (Nat → Nat → Int32) → Int64 → Prop) (X25 : Int32 → (Nat → Nat → Int32) → Int64 → Prop) (X55 : Int32 → Int32 → (Nat → Nat → Int32) → Int64 → Prop) (hX25 : ∀ v3 J lw, X25 v3 J lw → GJ g 5 (TP d t J lw (gs g).heap) 0 (TQ g d t (ansI Φ)) 25 [(0, rv (t + 1)), (1, .int p1), (2, .int p2), (3, .int v3)] []) (hX55 : ∀ v3 v4 J lw, X55 v3 v4 J lw → GJ g 5 (TP d t J lw (gs g).heap) 0 (TQ g d t (ansI Φ)) 55 [(0, rv (t + 1)), (1, .int p1), (2, .int p2), (3, .int v3), (4, .int v4)] []) (v3 : Int32) (v4 : Int32) (J : Nat → Nat → Int32) (lw : Int64) (hw : wf_X3_theft_55 p1 p2 Φ X25 X55 v3 v4 J lw) : GJ g 5 (TP d t J lw (gs g).heap) 0 (TQ g d t (ansI Φ)) 55 [(0, rv (t + 1)), (1, .int p1), (2, .int p2), (3, .int v3), (4, .int v4)] [] := by
  unfold wf_X3_theft_55 at hw
  have C := B.1
  have hW := B.2.1
  refine gj_iload C dX3_theft_55 4 rfl ?_
  refine gj_aload_n C dX3_theft_57 0 rfl ?_
  refine tg254 C hW dX3_theft_58 ?_
  refine gj_icmp_ge (tgt := 97) C dX3_theft_61 rfl (fun c17 => ?_) (fun c17 => ?_)
  · have hw := it_t hw c17
    obtain ⟨x18, ex18⟩ : ∃ x18 : Int32, x18 = v3 + 1 := ⟨_, rfl⟩
    have hw := hw x18 ex18
    refine gj_iinc (lc' := [(3, .int x18), (0, rv (t + 1)), (1, .int p1), (2, .int p2), (4, .int v4)]) (w := 1) (v := x18) C dX3_theft_97 3 rfl rfl ex18.symm (Nat.le_of_ble_eq_true rfl) rfl ?_
    refine gj_goto (tgt := 25) C dX3_theft_100 rfl ?_
    refine gj_sub (lc' := [(0, rv (t + 1)), (1, .int p1), (2, .int p2), (3, .int x18)]) [1, 2, 3, 0] rfl ?_
    exact hX25 _ _ _ hw
  · have hw := it_f hw c17
    refine gj_aload_n C dX3_theft_64 0 rfl ?_
    refine tg68 C hW dX3_theft_65 ?_
    refine gj_bipush (v := 24) C dX3_theft_68 rfl ?_
    refine gj_iload C dX3_theft_70 4 rfl ?_
    refine gj_imul C dX3_theft_72 ?_
    refine gj_iload_n C dX3_theft_73 3 rfl ?_
    refine gj_iadd C dX3_theft_74 ?_
    obtain ⟨h19, hw⟩ := hw
    refine gt_iald C hW (by decide) h19 dX3_theft_75 ?_
    refine gj_iload_n C dX3_theft_76 1 rfl ?_
    refine gj_icmp_ne (tgt := 91) C dX3_theft_77 rfl (fun c20 => ?_) (fun c20 => ?_)
    · have hw := it_f hw c20
      obtain ⟨x21, ex21⟩ : ∃ x21 : Int32, x21 = v4 + 1 := ⟨_, rfl⟩
      have hw := hw x21 ex21
      refine gj_iinc (lc' := [(4, .int x21), (0, rv (t + 1)), (1, .int p1), (2, .int p2), (3, .int v3)]) (w := 1) (v := x21) C dX3_theft_91 4 rfl rfl ex21.symm (Nat.le_of_ble_eq_true rfl) rfl ?_
      refine gj_goto (tgt := 55) C dX3_theft_94 rfl ?_
      refine gj_sub (lc' := [(0, rv (t + 1)), (1, .int p1), (2, .int p2), (3, .int v3), (4, .int x21)]) [1, 2, 3, 4, 0] rfl ?_
      exact hX55 _ _ _ _ hw
    · have hw := it_t hw c20
      refine gj_iload_n C dX3_theft_80 2 rfl ?_
      have key : ∀ x22 : Int32, x22 = (if p2 = 0 then v4 else v3) → GJ g 5 (TP d t J lw (gs g).heap) 0 (TQ g d t (ansI Φ)) 90 [(0, rv (t + 1)), (1, .int p1), (2, .int p2), (3, .int v3), (4, .int v4)] [.int x22] → GJ g 5 (TP d t J lw (gs g).heap) 0 (TQ g d t (ansI Φ)) 81 [(0, rv (t + 1)), (1, .int p1), (2, .int p2), (3, .int v3), (4, .int v4)] [.int p2] := by
        intro x22 ex22 kk
        refine gj_if_ne (tgt := 89) C dX3_theft_81 rfl (fun c23 => ?_) (fun c23 => ?_)
        · refine gj_iload_n C dX3_theft_89 3 rfl ?_
          rw [if_neg c23] at ex22
          subst ex22
          exact kk
        · refine gj_iload C dX3_theft_84 4 rfl ?_
          refine gj_goto (tgt := 90) C dX3_theft_86 rfl ?_
          rw [if_pos c23] at ex22
          subst ex22
          exact kk
      obtain ⟨x22, ex22⟩ : ∃ x22 : Int32, x22 = (if p2 = 0 then v4 else v3) := ⟨_, rfl⟩
      refine key x22 ex22 ?_
      have hw := hw x22 ex22
      clear key
      exact gt_iret B hw dX3_theft_90

theorem wq_X3_theft_55 {g : Gm} {d : TD} {t : Nat} (B : BdT g d prog_11_method_53_code 5 (some .int) 4 89) (p1 : Int32) (p2 : Int32) (Φ : Int32 → (Nat → Nat → Int32) → Int64 → Prop) (X25 : Int32 → (Nat → Nat → Int32) → Int64 → Prop) (hX25 : ∀ v3 J lw, X25 v3 J lw → GJ g 5 (TP d t J lw (gs g).heap) 0 (TQ g d t (ansI Φ)) 25 [(0, rv (t + 1)), (1, .int p1), (2, .int p2), (3, .int v3)] []) (v3 : Int32) (v4 : Int32) (J : Nat → Nat → Int32) (lw : Int64) (hw : wl_X3_theft_55 p1 p2 Φ X25 v3 v4 J lw) : GJ g 5 (TP d t J lw (gs g).heap) 0 (TQ g d t (ansI Φ)) 55 [(0, rv (t + 1)), (1, .int p1), (2, .int p2), (3, .int v3), (4, .int v4)] [] :=
  hw (fun v3 v4 J lw => GJ g 5 (TP d t J lw (gs g).heap) 0 (TQ g d t (ansI Φ)) 55 [(0, rv (t + 1)), (1, .int p1), (2, .int p2), (3, .int v3), (4, .int v4)] []) (fun v3 v4 J lw h => wk_X3_theft_55 B p1 p2 Φ X25 (fun v3 v4 J lw => GJ g 5 (TP d t J lw (gs g).heap) 0 (TQ g d t (ansI Φ)) 55 [(0, rv (t + 1)), (1, .int p1), (2, .int p2), (3, .int v3), (4, .int v4)] []) hX25 (fun v3 v4 J lw h => h) v3 v4 J lw h)
def wf_X3_theft_25 (p1 : Int32) (p2 : Int32) (Φ : Int32 → (Nat → Nat → Int32) → Int64 → Prop) (X25 : Int32 → (Nat → Nat → Int32) → Int64 → Prop) (v3 : Int32) (J : Nat → Nat → Int32) (lw : Int64) : Prop :=
(if 24 ≤ v3 then Φ (-1) J lw else (vp_in p1 (tln 5) ∧ (if (J 5 (Int32.toNatClampNeg p1)) ≤ 0 then Φ (-1) J lw else (wp_X3_signAt p1 v3 (fun r15 J13 l14 => (if r15 = 0 then wl_X3_theft_55 p1 p2 Φ X25 v3 0 J13 l14 else (∀ x24 : Int32, x24 = v3 + 1 → X25 x24 J13 l14))) J lw))))
def wl_X3_theft_25 (p1 : Int32) (p2 : Int32) (Φ : Int32 → (Nat → Nat → Int32) → Int64 → Prop) (v3 : Int32) (J : Nat → Nat → Int32) (lw : Int64) : Prop := ∀ X25 : Int32 → (Nat → Nat → Int32) → Int64 → Prop, (∀ v3 J lw, wf_X3_theft_25 p1 p2 Φ X25 v3 J lw → X25 v3 J lw) → X25 v3 J lw
theorem wk_X3_theft_25 {g : Gm} {d : TD} {t : Nat} (B : BdT g d prog_11_method_53_code 5 (some .int) 4 89) (p1 : Int32) (p2 : Int32) (Φ : Int32 → (Nat → Nat → Int32) → Int64 → Prop) (X25 : Int32 → (Nat → Nat → Int32) → Int64 → Prop) (hX25 : ∀ v3 J lw, X25 v3 J lw → GJ g 5 (TP d t J lw (gs g).heap) 0 (TQ g d t (ansI Φ)) 25 [(0, rv (t + 1)), (1, .int p1), (2, .int p2), (3, .int v3)] []) (v3 : Int32) (J : Nat → Nat → Int32) (lw : Int64) (hw : wf_X3_theft_25 p1 p2 Φ X25 v3 J lw) : GJ g 5 (TP d t J lw (gs g).heap) 0 (TQ g d t (ansI Φ)) 25 [(0, rv (t + 1)), (1, .int p1), (2, .int p2), (3, .int v3)] [] := by
  unfold wf_X3_theft_25 at hw
  have C := B.1
  have hW := B.2.1
  refine gj_iload_n C dX3_theft_25 3 rfl ?_
  refine gj_bipush (v := 24) C dX3_theft_26 rfl ?_
  refine gj_icmp_ge (tgt := 103) C dX3_theft_28 rfl (fun c10 => ?_) (fun c10 => ?_)
  · have hw := it_t hw c10
    refine gj_iconst (v := (-1)) C dX3_theft_103 rfl ?_
    exact gt_iret B hw dX3_theft_104
  · have hw := it_f hw c10
    refine gj_aload_n C dX3_theft_31 0 rfl ?_
    refine tg7 C hW dX3_theft_32 ?_
    refine gj_iload_n C dX3_theft_35 1 rfl ?_
    obtain ⟨h11, hw⟩ := hw
    refine gt_iald C hW (by decide) h11 dX3_theft_36 ?_
    refine gj_if_le (tgt := 103) C dX3_theft_37 rfl (fun c12 => ?_) (fun c12 => ?_)
    · have hw := it_t hw c12
      refine gj_iconst (v := (-1)) C dX3_theft_103 rfl ?_
      exact gt_iret B hw dX3_theft_104
    · have hw := it_f hw c12
      refine gj_aload_n C dX3_theft_40 0 rfl ?_
      refine gj_iload_n C dX3_theft_41 1 rfl ?_
      refine gj_iload_n C dX3_theft_42 3 rfl ?_
      refine tc_X3_signAt B hw (Nat.le_of_ble_eq_true rfl) (Nat.le_of_ble_eq_true rfl) (Nat.le_of_ble_eq_true rfl) dX3_theft_43 (fun r15 J13 l14 hw => ?_)
      refine gj_if_eq (tgt := 52) C dX3_theft_46 rfl (fun c16 => ?_) (fun c16 => ?_)
      · have hw := it_t hw c16
        refine gj_iconst (v := 0) C dX3_theft_52 rfl ?_
        refine gj_istore (lc' := [(4, .int 0), (0, rv (t + 1)), (1, .int p1), (2, .int p2), (3, .int v3)]) C dX3_theft_53 (Nat.le_of_ble_eq_true rfl) rfl ?_
        refine gj_sub (lc' := [(0, rv (t + 1)), (1, .int p1), (2, .int p2), (3, .int v3), (4, .int 0)]) [1, 2, 3, 4, 0] rfl ?_
        exact wq_X3_theft_55 B _ _ _ _ hX25 _ _ _ _ hw
      · have hw := it_f hw c16
        refine gj_goto (tgt := 97) C dX3_theft_49 rfl ?_
        obtain ⟨x24, ex24⟩ : ∃ x24 : Int32, x24 = v3 + 1 := ⟨_, rfl⟩
        have hw := hw x24 ex24
        refine gj_iinc (lc' := [(3, .int x24), (0, rv (t + 1)), (1, .int p1), (2, .int p2)]) (w := 1) (v := x24) C dX3_theft_97 3 rfl rfl ex24.symm (Nat.le_of_ble_eq_true rfl) rfl ?_
        refine gj_goto (tgt := 25) C dX3_theft_100 rfl ?_
        refine gj_sub (lc' := [(0, rv (t + 1)), (1, .int p1), (2, .int p2), (3, .int x24)]) [1, 2, 3, 0] rfl ?_
        exact hX25 _ _ _ hw

theorem wq_X3_theft_25 {g : Gm} {d : TD} {t : Nat} (B : BdT g d prog_11_method_53_code 5 (some .int) 4 89) (p1 : Int32) (p2 : Int32) (Φ : Int32 → (Nat → Nat → Int32) → Int64 → Prop) (v3 : Int32) (J : Nat → Nat → Int32) (lw : Int64) (hw : wl_X3_theft_25 p1 p2 Φ v3 J lw) : GJ g 5 (TP d t J lw (gs g).heap) 0 (TQ g d t (ansI Φ)) 25 [(0, rv (t + 1)), (1, .int p1), (2, .int p2), (3, .int v3)] [] :=
  hw (fun v3 J lw => GJ g 5 (TP d t J lw (gs g).heap) 0 (TQ g d t (ansI Φ)) 25 [(0, rv (t + 1)), (1, .int p1), (2, .int p2), (3, .int v3)] []) (fun v3 J lw h => wk_X3_theft_25 B p1 p2 Φ (fun v3 J lw => GJ g 5 (TP d t J lw (gs g).heap) 0 (TQ g d t (ansI Φ)) 25 [(0, rv (t + 1)), (1, .int p1), (2, .int p2), (3, .int v3)] []) (fun v3 J lw h => h) v3 J lw h)
def wp_X3_theft (p1 : Int32) (p2 : Int32) (Φ : Int32 → (Nat → Nat → Int32) → Int64 → Prop) (J : Nat → Nat → Int32) (lw : Int64) : Prop :=
(∀ J1 : Nat → Nat → Int32, J1 = u2 J 0 0 0 → (wp_X3_isRoom p1 (fun r4 J2 l3 => (if r4 = 0 then Φ 0 J2 l3 else (wp_X3_isTwo p2 (fun r8 J6 l7 => (if r8 = 0 then Φ 0 J6 l7 else wl_X3_theft_25 p1 p2 Φ 0 J6 l7)) J2 l3))) J1 lw))
theorem wk_X3_theft {g : Gm} {d : TD} {t : Nat} (B : BdT g d prog_11_method_53_code 5 (some .int) 4 89) (p1 : Int32) (p2 : Int32) (Φ : Int32 → (Nat → Nat → Int32) → Int64 → Prop) (J : Nat → Nat → Int32) (lw : Int64) (hw : wp_X3_theft p1 p2 Φ J lw) : GJ g 5 (TP d t J lw (gs g).heap) 0 (TQ g d t (ansI Φ)) 0 [(0, rv (t + 1)), (1, .int p1), (2, .int p2)] [] := by
  unfold wp_X3_theft at hw
  have C := B.1
  have hW := B.2.1
  refine gj_aload_n C dX3_theft_0 0 rfl ?_
  refine gj_iconst (v := 0) C dX3_theft_1 rfl ?_
  refine tp134 C hW dX3_theft_2 ?_
  refine gt_nmJ (fun J1 eJ1 => ?_)
  have hw := hw J1 eJ1
  refine gj_aload_n C dX3_theft_5 0 rfl ?_
  refine gj_iload_n C dX3_theft_6 1 rfl ?_
  refine tc_X3_isRoom B hw (Nat.le_of_ble_eq_true rfl) (Nat.le_of_ble_eq_true rfl) (Nat.le_of_ble_eq_true rfl) dX3_theft_7 (fun r4 J2 l3 br4 hw => ?_)
  refine gj_if_eq (tgt := 21) C dX3_theft_10 rfl (fun c5 => ?_) (fun c5 => ?_)
  · have hw := it_t hw c5
    refine gj_iconst (v := 0) C dX3_theft_21 rfl ?_
    exact gt_iret B hw dX3_theft_22
  · have hw := it_f hw c5
    refine gj_aload_n C dX3_theft_13 0 rfl ?_
    refine gj_iload_n C dX3_theft_14 2 rfl ?_
    refine tc_X3_isTwo B hw (Nat.le_of_ble_eq_true rfl) (Nat.le_of_ble_eq_true rfl) (Nat.le_of_ble_eq_true rfl) dX3_theft_15 (fun r8 J6 l7 br8 hw => ?_)
    refine gj_if_ne (tgt := 23) C dX3_theft_18 rfl (fun c9 => ?_) (fun c9 => ?_)
    · have hw := it_f hw c9
      refine gj_iconst (v := 0) C dX3_theft_23 rfl ?_
      refine gj_istore_n (lc' := [(3, .int 0), (0, rv (t + 1)), (1, .int p1), (2, .int p2)]) C dX3_theft_24 (Nat.le_of_ble_eq_true rfl) rfl ?_
      refine gj_sub (lc' := [(0, rv (t + 1)), (1, .int p1), (2, .int p2), (3, .int 0)]) [1, 2, 3, 0] rfl ?_
      exact wq_X3_theft_25 B _ _ _ _ _ _ hw
    · have hw := it_t hw c9
      refine gj_iconst (v := 0) C dX3_theft_21 rfl ?_
      exact gt_iret B hw dX3_theft_22

theorem met_X3_theft (l : Launch) {d : TD} {t : Nat} {J : Nat → Nat → Int32} {lw : Int64} {p1 : Int32} {p2 : Int32} {Φ : Int32 → (Nat → Nat → Int32) → Int64 → Prop} (hw : wp_X3_theft p1 p2 Φ J lw) : MetT l yX3_theft prog_11_method_53_code 5 (some .int) 4 89 [.ref t, .int p1, .int p2] d t J lw (ansI Φ) :=
  mt_of (by decide +kernel) rfl (Nat.le_of_ble_eq_true rfl) (fun g _ B => wk_X3_theft B _ _ _ J lw hw)
/-! see(III)I -/
def wj_X3_see_64 (p1 : Int32) (p2 : Int32) (p3 : Int32) (Φ : Int32 → (Nat → Nat → Int32) → Int64 → Prop) (J : Nat → Nat → Int32) (lw : Int64) : Prop :=
(wp_X3_refuses 2 (fun r18 J16 l17 => Φ r18 J16 l17) J lw)
theorem wq_X3_see_64 {g : Gm} {d : TD} {t : Nat} (B : BdT g d prog_11_method_54_code 5 (some .int) 2 43) (p1 : Int32) (p2 : Int32) (p3 : Int32) (Φ : Int32 → (Nat → Nat → Int32) → Int64 → Prop) (J : Nat → Nat → Int32) (lw : Int64) (hw : wj_X3_see_64 p1 p2 p3 Φ J lw) : GJ g 5 (TP d t J lw (gs g).heap) 0 (TQ g d t (ansI Φ)) 64 [(0, rv (t + 1))] [] := by
  unfold wj_X3_see_64 at hw
  have C := B.1
  have hW := B.2.1
  refine gj_aload_n C dX3_see_64 0 rfl ?_
  refine gj_iconst (v := 2) C dX3_see_65 rfl ?_
  refine tc_X3_refuses B hw (Nat.le_of_ble_eq_true rfl) (Nat.le_of_ble_eq_true rfl) (Nat.le_of_ble_eq_true rfl) dX3_see_66 (fun r18 J16 l17 hw => ?_)
  exact gt_iret B hw dX3_see_69

def wj_X3_see_80 (p1 : Int32) (p2 : Int32) (p3 : Int32) (Φ : Int32 → (Nat → Nat → Int32) → Int64 → Prop) (J : Nat → Nat → Int32) (lw : Int64) : Prop :=
(∀ J21 : Nat → Nat → Int32, J21 = u2 J 0 40 p2 → (∀ J22 : Nat → Nat → Int32, J22 = u2 J21 0 41 ((J21 0 41) ||| ((1 : Int32) <<< (p1 &&& 31))) → (vp_in p1 (tln 42) ∧ (∀ J24 : Nat → Nat → Int32, J24 = u2 J22 42 (Int32.toNatClampNeg p1) p3 → (wp_X3_bits (J24 0 41) (fun r27 J25 l26 => Φ r27 J25 l26) J24 lw)))))
theorem wq_X3_see_80 {g : Gm} {d : TD} {t : Nat} (B : BdT g d prog_11_method_54_code 5 (some .int) 2 43) (p1 : Int32) (p2 : Int32) (p3 : Int32) (Φ : Int32 → (Nat → Nat → Int32) → Int64 → Prop) (J : Nat → Nat → Int32) (lw : Int64) (hw : wj_X3_see_80 p1 p2 p3 Φ J lw) : GJ g 5 (TP d t J lw (gs g).heap) 0 (TQ g d t (ansI Φ)) 80 [(0, rv (t + 1)), (1, .int p1), (2, .int p2), (3, .int p3)] [] := by
  unfold wj_X3_see_80 at hw
  have C := B.1
  have hW := B.2.1
  refine gj_aload_n C dX3_see_80 0 rfl ?_
  refine gj_iload_n C dX3_see_81 2 rfl ?_
  refine tp71 C hW dX3_see_82 ?_
  refine gt_nmJ (fun J21 eJ21 => ?_)
  have hw := hw J21 eJ21
  refine gj_aload_n C dX3_see_85 0 rfl ?_
  refine gj_dup C dX3_see_86 (rv_cat _) ?_
  refine tg267 C hW dX3_see_87 ?_
  refine gj_iconst (v := 1) C dX3_see_90 rfl ?_
  refine gj_iload_n C dX3_see_91 1 rfl ?_
  refine gj_ishl C dX3_see_92 ?_
  refine gj_ior C dX3_see_93 ?_
  refine tp267 C hW dX3_see_94 ?_
  refine gt_nmJ (fun J22 eJ22 => ?_)
  have hw := hw J22 eJ22
  refine gj_aload_n C dX3_see_97 0 rfl ?_
  refine tg74 C hW dX3_see_98 ?_
  refine gj_iload_n C dX3_see_101 1 rfl ?_
  refine gj_iload_n C dX3_see_102 3 rfl ?_
  obtain ⟨h23, hw⟩ := hw
  refine gt_iast C hW (by decide) h23 dX3_see_103 ?_
  refine gt_nmJ (fun J24 eJ24 => ?_)
  have hw := hw J24 eJ24
  refine gj_aload_n C dX3_see_104 0 rfl ?_
  refine tg267 C hW dX3_see_105 ?_
  refine tc_X3_bits B hw (Nat.le_of_ble_eq_true rfl) (Nat.le_of_ble_eq_true rfl) (Nat.le_of_ble_eq_true rfl) dX3_see_108 (fun r27 J25 l26 hw => ?_)
  exact gt_iret B hw dX3_see_111

def wj_X3_see_70 (p1 : Int32) (p2 : Int32) (p3 : Int32) (Φ : Int32 → (Nat → Nat → Int32) → Int64 → Prop) (v4 : Int32) (J : Nat → Nat → Int32) (lw : Int64) : Prop :=
(if v4 = 0 then (∀ J28 : Nat → Nat → Int32, J28 = u2 J 0 41 0 → wj_X3_see_80 p1 p2 p3 Φ J28 lw) else wj_X3_see_80 p1 p2 p3 Φ J lw)
theorem wq_X3_see_70 {g : Gm} {d : TD} {t : Nat} (B : BdT g d prog_11_method_54_code 5 (some .int) 2 43) (p1 : Int32) (p2 : Int32) (p3 : Int32) (Φ : Int32 → (Nat → Nat → Int32) → Int64 → Prop) (v4 : Int32) (J : Nat → Nat → Int32) (lw : Int64) (hw : wj_X3_see_70 p1 p2 p3 Φ v4 J lw) : GJ g 5 (TP d t J lw (gs g).heap) 0 (TQ g d t (ansI Φ)) 70 [(0, rv (t + 1)), (1, .int p1), (2, .int p2), (3, .int p3), (4, .int v4)] [] := by
  unfold wj_X3_see_70 at hw
  have C := B.1
  have hW := B.2.1
  refine gj_iload C dX3_see_70 4 rfl ?_
  refine gj_if_ne (tgt := 80) C dX3_see_72 rfl (fun c20 => ?_) (fun c20 => ?_)
  · have hw := it_f hw c20
    refine gj_sub (lc' := [(0, rv (t + 1)), (1, .int p1), (2, .int p2), (3, .int p3)]) [0, 1, 2, 3] rfl ?_
    exact wq_X3_see_80 B _ _ _ _ _ _ hw
  · have hw := it_t hw c20
    refine gj_aload_n C dX3_see_75 0 rfl ?_
    refine gj_iconst (v := 0) C dX3_see_76 rfl ?_
    refine tp267 C hW dX3_see_77 ?_
    refine gt_nmJ (fun J28 eJ28 => ?_)
    have hw := hw J28 eJ28
    refine gj_sub (lc' := [(0, rv (t + 1)), (1, .int p1), (2, .int p2), (3, .int p3)]) [0, 1, 2, 3] rfl ?_
    exact wq_X3_see_80 B _ _ _ _ _ _ hw

def wp_X3_see (p1 : Int32) (p2 : Int32) (p3 : Int32) (Φ : Int32 → (Nat → Nat → Int32) → Int64 → Prop) (J : Nat → Nat → Int32) (lw : Int64) : Prop :=
(∀ J1 : Nat → Nat → Int32, J1 = u2 J 0 0 0 → (wp_X3_isRoom p1 (fun r4 J2 l3 => (if r4 = 0 then Φ 0 J2 l3 else (wp_X3_isHour p2 (fun r8 J6 l7 => (if r8 = 0 then Φ 0 J6 l7 else (∀ x10 : Int32, x10 = (if p2 = (J6 0 40) then 1 else 0) → (wp_X3_within p3 0 3 (fun r14 J12 l13 => (if r14 = 0 then wj_X3_see_64 p1 p2 p3 Φ J12 l13 else (if x10 = 0 then wj_X3_see_70 p1 p2 p3 Φ x10 J12 l13 else (if (((J12 0 41) >>> (p1 &&& 31)) &&& 1) = 1 then wj_X3_see_64 p1 p2 p3 Φ J12 l13 else wj_X3_see_70 p1 p2 p3 Φ x10 J12 l13)))) J6 l7)))) J2 l3))) J1 lw))
theorem wk_X3_see {g : Gm} {d : TD} {t : Nat} (B : BdT g d prog_11_method_54_code 5 (some .int) 2 43) (p1 : Int32) (p2 : Int32) (p3 : Int32) (Φ : Int32 → (Nat → Nat → Int32) → Int64 → Prop) (J : Nat → Nat → Int32) (lw : Int64) (hw : wp_X3_see p1 p2 p3 Φ J lw) : GJ g 5 (TP d t J lw (gs g).heap) 0 (TQ g d t (ansI Φ)) 0 [(0, rv (t + 1)), (1, .int p1), (2, .int p2), (3, .int p3)] [] := by
  unfold wp_X3_see at hw
  have C := B.1
  have hW := B.2.1
  refine gj_aload_n C dX3_see_0 0 rfl ?_
  refine gj_iconst (v := 0) C dX3_see_1 rfl ?_
  refine tp134 C hW dX3_see_2 ?_
  refine gt_nmJ (fun J1 eJ1 => ?_)
  have hw := hw J1 eJ1
  refine gj_aload_n C dX3_see_5 0 rfl ?_
  refine gj_iload_n C dX3_see_6 1 rfl ?_
  refine tc_X3_isRoom B hw (Nat.le_of_ble_eq_true rfl) (Nat.le_of_ble_eq_true rfl) (Nat.le_of_ble_eq_true rfl) dX3_see_7 (fun r4 J2 l3 br4 hw => ?_)
  refine gj_if_eq (tgt := 21) C dX3_see_10 rfl (fun c5 => ?_) (fun c5 => ?_)
  · have hw := it_t hw c5
    refine gj_iconst (v := 0) C dX3_see_21 rfl ?_
    exact gt_iret B hw dX3_see_22
  · have hw := it_f hw c5
    refine gj_aload_n C dX3_see_13 0 rfl ?_
    refine gj_iload_n C dX3_see_14 2 rfl ?_
    refine tc_X3_isHour B hw (Nat.le_of_ble_eq_true rfl) (Nat.le_of_ble_eq_true rfl) (Nat.le_of_ble_eq_true rfl) dX3_see_15 (fun r8 J6 l7 br8 hw => ?_)
    refine gj_if_ne (tgt := 23) C dX3_see_18 rfl (fun c9 => ?_) (fun c9 => ?_)
    · have hw := it_f hw c9
      refine gj_iload_n C dX3_see_23 2 rfl ?_
      refine gj_aload_n C dX3_see_24 0 rfl ?_
      refine tg71 C hW dX3_see_25 ?_
      have key : ∀ x10 : Int32, x10 = (if p2 = (J6 0 40) then 1 else 0) → GJ g 5 (TP d t J6 l7 (gs g).heap) 0 (TQ g d t (ansI Φ)) 36 [(0, rv (t + 1)), (1, .int p1), (2, .int p2), (3, .int p3)] [.int x10] → GJ g 5 (TP d t J6 l7 (gs g).heap) 0 (TQ g d t (ansI Φ)) 28 [(0, rv (t + 1)), (1, .int p1), (2, .int p2), (3, .int p3)] [.int (J6 0 40), .int p2] := by
        intro x10 ex10 kk
        refine gj_icmp_ne (tgt := 35) C dX3_see_28 rfl (fun c11 => ?_) (fun c11 => ?_)
        · refine gj_iconst (v := 0) C dX3_see_35 rfl ?_
          rw [if_neg c11] at ex10
          subst ex10
          exact kk
        · refine gj_iconst (v := 1) C dX3_see_31 rfl ?_
          refine gj_goto (tgt := 36) C dX3_see_32 rfl ?_
          rw [if_pos c11] at ex10
          subst ex10
          exact kk
      obtain ⟨x10, ex10⟩ : ∃ x10 : Int32, x10 = (if p2 = (J6 0 40) then 1 else 0) := ⟨_, rfl⟩
      have bx10 : x10 = 0 ∨ x10 = 1 := by rw [ex10]; (repeat' split) <;> simp
      refine key x10 ex10 ?_
      have hw := hw x10 ex10
      clear key
      refine gj_istore (lc' := [(4, .int x10), (0, rv (t + 1)), (1, .int p1), (2, .int p2), (3, .int p3)]) C dX3_see_36 (Nat.le_of_ble_eq_true rfl) rfl ?_
      refine gj_iload_n C dX3_see_38 4 rfl ?_
      refine gj_iconst (v := 0) C dX3_see_39 rfl ?_
      refine gj_iconst (v := 3) C dX3_see_40 rfl ?_
      refine tc_X3_within B hw (Nat.le_of_ble_eq_true rfl) (Nat.le_of_ble_eq_true rfl) (Nat.le_of_ble_eq_true rfl) dX3_see_41 (fun r14 J12 l13 br14 hw => ?_)
      refine gj_if_eq (tgt := 64) C dX3_see_44 rfl (fun c15 => ?_) (fun c15 => ?_)
      · have hw := it_t hw c15
        refine gj_sub (lc' := [(0, rv (t + 1))]) [1] rfl ?_
        exact wq_X3_see_64 B _ _ _ _ _ _ hw
      · have hw := it_f hw c15
        refine gj_iload C dX3_see_47 0 rfl ?_
        refine gj_if_eq (tgt := 70) C dX3_see_49 rfl (fun c19 => ?_) (fun c19 => ?_)
        · have hw := it_t hw c19
          refine gj_sub (lc' := [(0, rv (t + 1)), (1, .int p1), (2, .int p2), (3, .int p3), (4, .int x10)]) [1, 2, 3, 4, 0] rfl ?_
          exact wq_X3_see_70 B _ _ _ _ _ _ _ hw
        · have hw := it_f hw c19
          refine gj_aload_n C dX3_see_52 1 rfl ?_
          refine tg267 C hW dX3_see_53 ?_
          refine gj_iload_n C dX3_see_56 2 rfl ?_
          refine gj_ishr C dX3_see_57 ?_
          refine gj_iconst (v := 1) C dX3_see_58 rfl ?_
          refine gj_iand C dX3_see_59 ?_
          refine gj_iconst (v := 1) C dX3_see_60 rfl ?_
          refine gj_icmp_ne (tgt := 70) C dX3_see_61 rfl (fun c29 => ?_) (fun c29 => ?_)
          · have hw := it_f hw c29
            refine gj_sub (lc' := [(0, rv (t + 1)), (1, .int p1), (2, .int p2), (3, .int p3), (4, .int x10)]) [1, 2, 3, 4, 0] rfl ?_
            exact wq_X3_see_70 B _ _ _ _ _ _ _ hw
          · have hw := it_t hw c29
            refine gj_sub (lc' := [(0, rv (t + 1))]) [1] rfl ?_
            exact wq_X3_see_64 B _ _ _ _ _ _ hw
    · have hw := it_t hw c9
      refine gj_iconst (v := 0) C dX3_see_21 rfl ?_
      exact gt_iret B hw dX3_see_22

theorem met_X3_see (l : Launch) {d : TD} {t : Nat} {J : Nat → Nat → Int32} {lw : Int64} {p1 : Int32} {p2 : Int32} {p3 : Int32} {Φ : Int32 → (Nat → Nat → Int32) → Int64 → Prop} (hw : wp_X3_see p1 p2 p3 Φ J lw) : MetT l yX3_see prog_11_method_54_code 5 (some .int) 2 43 [.ref t, .int p1, .int p2, .int p3] d t J lw (ansI Φ) :=
  mt_of (by decide +kernel) rfl (Nat.le_of_ble_eq_true rfl) (fun g _ B => wk_X3_see B _ _ _ _ J lw hw)
/-! forget()I -/
def wp_X3_forget (Φ : Int32 → (Nat → Nat → Int32) → Int64 → Prop) (J : Nat → Nat → Int32) (lw : Int64) : Prop :=
(∀ J1 : Nat → Nat → Int32, J1 = u2 J 0 0 0 → (wp_X3_bits (J1 0 41) (fun r4 J2 l3 => (∀ J5 : Nat → Nat → Int32, J5 = u2 J2 0 41 0 → (∀ J6 : Nat → Nat → Int32, J6 = u2 J5 0 40 (-1) → Φ r4 J6 l3))) J1 lw))
theorem wk_X3_forget {g : Gm} {d : TD} {t : Nat} (B : BdT g d prog_11_method_55_code 2 (some .int) 1 22) (Φ : Int32 → (Nat → Nat → Int32) → Int64 → Prop) (J : Nat → Nat → Int32) (lw : Int64) (hw : wp_X3_forget Φ J lw) : GJ g 2 (TP d t J lw (gs g).heap) 0 (TQ g d t (ansI Φ)) 0 [(0, rv (t + 1))] [] := by
  unfold wp_X3_forget at hw
  have C := B.1
  have hW := B.2.1
  refine gj_aload_n C dX3_forget_0 0 rfl ?_
  refine gj_iconst (v := 0) C dX3_forget_1 rfl ?_
  refine tp134 C hW dX3_forget_2 ?_
  refine gt_nmJ (fun J1 eJ1 => ?_)
  have hw := hw J1 eJ1
  refine gj_aload_n C dX3_forget_5 0 rfl ?_
  refine tg267 C hW dX3_forget_6 ?_
  refine tc_X3_bits B hw (Nat.le_of_ble_eq_true rfl) (Nat.le_of_ble_eq_true rfl) (Nat.le_of_ble_eq_true rfl) dX3_forget_9 (fun r4 J2 l3 hw => ?_)
  refine gj_istore_n (lc' := [(1, .int r4), (0, rv (t + 1))]) C dX3_forget_12 (Nat.le_of_ble_eq_true rfl) rfl ?_
  refine gj_aload_n C dX3_forget_13 1 rfl ?_
  refine gj_iconst (v := 0) C dX3_forget_14 rfl ?_
  refine tp267 C hW dX3_forget_15 ?_
  refine gt_nmJ (fun J5 eJ5 => ?_)
  have hw := hw J5 eJ5
  refine gj_aload_n C dX3_forget_18 1 rfl ?_
  refine gj_iconst (v := (-1)) C dX3_forget_19 rfl ?_
  refine tp71 C hW dX3_forget_20 ?_
  refine gt_nmJ (fun J6 eJ6 => ?_)
  have hw := hw J6 eJ6
  refine gj_iload_n C dX3_forget_23 0 rfl ?_
  exact gt_iret B hw dX3_forget_24

theorem met_X3_forget (l : Launch) {d : TD} {t : Nat} {J : Nat → Nat → Int32} {lw : Int64} {Φ : Int32 → (Nat → Nat → Int32) → Int64 → Prop} (hw : wp_X3_forget Φ J lw) : MetT l yX3_forget prog_11_method_55_code 2 (some .int) 1 22 [.ref t] d t J lw (ansI Φ) :=
  mt_of (by decide +kernel) rfl (Nat.le_of_ble_eq_true rfl) (fun g _ B => wk_X3_forget B _ J lw hw)
/-! hour()I -/
def wp_X3_hour (Φ : Int32 → (Nat → Nat → Int32) → Int64 → Prop) (J : Nat → Nat → Int32) (lw : Int64) : Prop :=
(∀ x1 : Int32, x1 = (if (J 0 40) = (-1) then 0 else (J 0 40)) → Φ x1 J lw)
theorem wk_X3_hour {g : Gm} {d : TD} {t : Nat} (B : BdT g d prog_11_method_56_code 1 (some .int) 0 0) (Φ : Int32 → (Nat → Nat → Int32) → Int64 → Prop) (J : Nat → Nat → Int32) (lw : Int64) (hw : wp_X3_hour Φ J lw) : GJ g 1 (TP d t J lw (gs g).heap) 0 (TQ g d t (ansI Φ)) 0 [(0, rv (t + 1))] [] := by
  unfold wp_X3_hour at hw
  have C := B.1
  have hW := B.2.1
  refine gj_aload_n C dX3_hour_0 0 rfl ?_
  refine tg71 C hW dX3_hour_1 ?_
  refine gj_iconst (v := (-1)) C dX3_hour_4 rfl ?_
  have key : ∀ x1 : Int32, x1 = (if (J 0 40) = (-1) then 0 else (J 0 40)) → GJ g 1 (TP d t J lw (gs g).heap) 0 (TQ g d t (ansI Φ)) 16 [(0, rv (t + 1))] [.int x1] → GJ g 1 (TP d t J lw (gs g).heap) 0 (TQ g d t (ansI Φ)) 5 [(0, rv (t + 1))] [.int (-1), .int (J 0 40)] := by
    intro x1 ex1 kk
    refine gj_icmp_ne (tgt := 12) C dX3_hour_5 rfl (fun c2 => ?_) (fun c2 => ?_)
    · refine gj_aload_n C dX3_hour_12 0 rfl ?_
      refine tg71 C hW dX3_hour_13 ?_
      rw [if_neg c2] at ex1
      subst ex1
      exact kk
    · refine gj_iconst (v := 0) C dX3_hour_8 rfl ?_
      refine gj_goto (tgt := 16) C dX3_hour_9 rfl ?_
      rw [if_pos c2] at ex1
      subst ex1
      exact kk
  obtain ⟨x1, ex1⟩ : ∃ x1 : Int32, x1 = (if (J 0 40) = (-1) then 0 else (J 0 40)) := ⟨_, rfl⟩
  refine key x1 ex1 ?_
  have hw := hw x1 ex1
  clear key
  exact gt_iret B hw dX3_hour_16

theorem met_X3_hour (l : Launch) {d : TD} {t : Nat} {J : Nat → Nat → Int32} {lw : Int64} {Φ : Int32 → (Nat → Nat → Int32) → Int64 → Prop} (hw : wp_X3_hour Φ J lw) : MetT l yX3_hour prog_11_method_56_code 1 (some .int) 0 0 [.ref t] d t J lw (ansI Φ) :=
  mt_of (by decide +kernel) rfl (Nat.le_of_ble_eq_true rfl) (fun g _ B => wk_X3_hour B _ J lw hw)
theorem tc_X3_hour {g : Gm} {d : TD} {t : Nat} {cc : ByteArray} {nL : Nat} {ret : Option FieldType} {fr lo : Nat} (B : BdT g d cc nL ret fr lo) {J : Nat → Nat → Int32} {lw : Int64} {H0 : Heap} {Q : State → Prop} {pc : Nat} {lc : List (Nat × Value)} {rest : List Value} {Φ : Int32 → (Nat → Nat → Int32) → Int64 → Prop} (hw : wp_X3_hour Φ J lw) (hf : 1 ≤ fr) (hlo : 20 ≤ lo) (hrest : (rest.map fun v => v.category).sum ≤ 8) (dg : decode cc pc = .ok (.invokevirtual 341, 3)) (k : ∀ (r : Int32) J' lw', Φ r J' lw' → GJ g nL (TP d t J' lw' H0) 0 Q (pc + 3) lc (.int r :: rest)) : GJ g nL (TP d t J lw H0) 0 Q pc lc (rv (t + 1) :: rest) :=
  gt_callV (n := 0) (As := []) B (met_X3_hour g.2.1 hw) (lw_V q1615 q1617 qs67 q97 q1618) ⟨rfl, by decide +kernel, by decide +kernel, by decide +kernel⟩ rfl hf hlo ⟨Nat.zero_le _, Nat.zero_le _⟩ rfl hrest dg (fun v J' lw' hp => by obtain ⟨r, rfl, hp⟩ := hp; exact k r J' lw' hp)
/-! isSpent(I)Z -/
def wf_X3_isSpent_4 (p1 : Int32) (Φ : Int32 → (Nat → Nat → Int32) → Int64 → Prop) (X4 : Int32 → Int32 → (Nat → Nat → Int32) → Int64 → Prop) (v2 : Int32) (v3 : Int32) (J : Nat → Nat → Int32) (lw : Int64) : Prop :=
(if (J 0 2) ≤ v3 then Φ 0 J lw else (vp_in ((24 * v3) + p1) (tln 11) ∧ (wp_X3_bits (J 11 (Int32.toNatClampNeg ((24 * v3) + p1))) (fun r5 J3 l4 => (∀ x6 : Int32, x6 = (v2 * r5) → (if x6 ≤ 4000 then (∀ x8 : Int32, x8 = v3 + 1 → X4 x6 x8 J3 l4) else Φ 1 J3 l4))) J lw)))
def wl_X3_isSpent_4 (p1 : Int32) (Φ : Int32 → (Nat → Nat → Int32) → Int64 → Prop) (v2 : Int32) (v3 : Int32) (J : Nat → Nat → Int32) (lw : Int64) : Prop := ∀ X4 : Int32 → Int32 → (Nat → Nat → Int32) → Int64 → Prop, (∀ v2 v3 J lw, wf_X3_isSpent_4 p1 Φ X4 v2 v3 J lw → X4 v2 v3 J lw) → X4 v2 v3 J lw
theorem wk_X3_isSpent_4 {g : Gm} {d : TD} {t : Nat} (B : BdT g d prog_11_method_59_code 4 (some .boolean) 1 22) (p1 : Int32) (Φ : Int32 → (Nat → Nat → Int32) → Int64 → Prop) (X4 : Int32 → Int32 → (Nat → Nat → Int32) → Int64 → Prop) (hX4 : ∀ v2 v3 J lw, X4 v2 v3 J lw → GJ g 4 (TP d t J lw (gs g).heap) 0 (TQ g d t (ansZ Φ)) 4 [(0, rv (t + 1)), (1, .int p1), (2, .int v2), (3, .int v3)] []) (v2 : Int32) (v3 : Int32) (J : Nat → Nat → Int32) (lw : Int64) (hw : wf_X3_isSpent_4 p1 Φ X4 v2 v3 J lw) : GJ g 4 (TP d t J lw (gs g).heap) 0 (TQ g d t (ansZ Φ)) 4 [(0, rv (t + 1)), (1, .int p1), (2, .int v2), (3, .int v3)] [] := by
  unfold wf_X3_isSpent_4 at hw
  have C := B.1
  have hW := B.2.1
  refine gj_iload_n C dX3_isSpent_4 3 rfl ?_
  refine gj_aload_n C dX3_isSpent_5 0 rfl ?_
  refine tg251 C hW dX3_isSpent_6 ?_
  refine gj_icmp_ge (tgt := 44) C dX3_isSpent_9 rfl (fun c1 => ?_) (fun c1 => ?_)
  · have hw := it_t hw c1
    refine gj_iconst (v := 0) C dX3_isSpent_44 rfl ?_
    exact gt_zret B (Or.inl rfl) hw dX3_isSpent_45
  · have hw := it_f hw c1
    refine gj_iload_n C dX3_isSpent_12 2 rfl ?_
    refine gj_aload_n C dX3_isSpent_13 0 rfl ?_
    refine tg28 C hW dX3_isSpent_14 ?_
    refine gj_bipush (v := 24) C dX3_isSpent_17 rfl ?_
    refine gj_iload_n C dX3_isSpent_19 3 rfl ?_
    refine gj_imul C dX3_isSpent_20 ?_
    refine gj_iload_n C dX3_isSpent_21 1 rfl ?_
    refine gj_iadd C dX3_isSpent_22 ?_
    obtain ⟨h2, hw⟩ := hw
    refine gt_iald C hW (by decide) h2 dX3_isSpent_23 ?_
    refine tc_X3_bits B hw (Nat.le_of_ble_eq_true rfl) (Nat.le_of_ble_eq_true rfl) (Nat.le_of_ble_eq_true rfl) dX3_isSpent_24 (fun r5 J3 l4 hw => ?_)
    refine gj_imul C dX3_isSpent_27 ?_
    refine gj_topi (fun x6 ex6 => ?_)
    have hw := hw x6 ex6
    refine gj_istore_n (lc' := [(2, .int x6), (0, rv (t + 1)), (1, .int p1), (3, .int v3)]) C dX3_isSpent_28 (Nat.le_of_ble_eq_true rfl) rfl ?_
    refine gj_iload_n C dX3_isSpent_29 0 rfl ?_
    refine gj_sipush (v := 4000) C dX3_isSpent_30 rfl ?_
    refine gj_icmp_le (tgt := 38) C dX3_isSpent_33 rfl (fun c7 => ?_) (fun c7 => ?_)
    · have hw := it_t hw c7
      obtain ⟨x8, ex8⟩ : ∃ x8 : Int32, x8 = v3 + 1 := ⟨_, rfl⟩
      have hw := hw x8 ex8
      refine gj_iinc (lc' := [(3, .int x8), (2, .int x6), (0, rv (t + 1)), (1, .int p1)]) (w := 1) (v := x8) C dX3_isSpent_38 3 rfl rfl ex8.symm (Nat.le_of_ble_eq_true rfl) rfl ?_
      refine gj_goto (tgt := 4) C dX3_isSpent_41 rfl ?_
      refine gj_sub (lc' := [(0, rv (t + 1)), (1, .int p1), (2, .int x6), (3, .int x8)]) [2, 3, 1, 0] rfl ?_
      exact hX4 _ _ _ _ hw
    · have hw := it_f hw c7
      refine gj_iconst (v := 1) C dX3_isSpent_36 rfl ?_
      exact gt_zret B (Or.inr rfl) hw dX3_isSpent_37

theorem wq_X3_isSpent_4 {g : Gm} {d : TD} {t : Nat} (B : BdT g d prog_11_method_59_code 4 (some .boolean) 1 22) (p1 : Int32) (Φ : Int32 → (Nat → Nat → Int32) → Int64 → Prop) (v2 : Int32) (v3 : Int32) (J : Nat → Nat → Int32) (lw : Int64) (hw : wl_X3_isSpent_4 p1 Φ v2 v3 J lw) : GJ g 4 (TP d t J lw (gs g).heap) 0 (TQ g d t (ansZ Φ)) 4 [(0, rv (t + 1)), (1, .int p1), (2, .int v2), (3, .int v3)] [] :=
  hw (fun v2 v3 J lw => GJ g 4 (TP d t J lw (gs g).heap) 0 (TQ g d t (ansZ Φ)) 4 [(0, rv (t + 1)), (1, .int p1), (2, .int v2), (3, .int v3)] []) (fun v2 v3 J lw h => wk_X3_isSpent_4 B p1 Φ (fun v2 v3 J lw => GJ g 4 (TP d t J lw (gs g).heap) 0 (TQ g d t (ansZ Φ)) 4 [(0, rv (t + 1)), (1, .int p1), (2, .int v2), (3, .int v3)] []) (fun v2 v3 J lw h => h) v2 v3 J lw h)
def wp_X3_isSpent (p1 : Int32) (Φ : Int32 → (Nat → Nat → Int32) → Int64 → Prop) (J : Nat → Nat → Int32) (lw : Int64) : Prop :=
wl_X3_isSpent_4 p1 Φ 1 0 J lw
theorem wk_X3_isSpent {g : Gm} {d : TD} {t : Nat} (B : BdT g d prog_11_method_59_code 4 (some .boolean) 1 22) (p1 : Int32) (Φ : Int32 → (Nat → Nat → Int32) → Int64 → Prop) (J : Nat → Nat → Int32) (lw : Int64) (hw : wp_X3_isSpent p1 Φ J lw) : GJ g 4 (TP d t J lw (gs g).heap) 0 (TQ g d t (ansZ Φ)) 0 [(0, rv (t + 1)), (1, .int p1)] [] := by
  unfold wp_X3_isSpent at hw
  have C := B.1
  have hW := B.2.1
  refine gj_iconst (v := 1) C dX3_isSpent_0 rfl ?_
  refine gj_istore_n (lc' := [(2, .int 1), (0, rv (t + 1)), (1, .int p1)]) C dX3_isSpent_1 (Nat.le_of_ble_eq_true rfl) rfl ?_
  refine gj_iconst (v := 0) C dX3_isSpent_2 rfl ?_
  refine gj_istore_n (lc' := [(3, .int 0), (2, .int 1), (0, rv (t + 1)), (1, .int p1)]) C dX3_isSpent_3 (Nat.le_of_ble_eq_true rfl) rfl ?_
  refine gj_sub (lc' := [(0, rv (t + 1)), (1, .int p1), (2, .int 1), (3, .int 0)]) [2, 3, 1, 0] rfl ?_
  exact wq_X3_isSpent_4 B _ _ _ _ _ _ hw

theorem met_X3_isSpent (l : Launch) {d : TD} {t : Nat} {J : Nat → Nat → Int32} {lw : Int64} {p1 : Int32} {Φ : Int32 → (Nat → Nat → Int32) → Int64 → Prop} (hw : wp_X3_isSpent p1 Φ J lw) : MetT l yX3_isSpent prog_11_method_59_code 4 (some .boolean) 1 22 [.ref t, .int p1] d t J lw (ansZ Φ) :=
  mt_of (by decide +kernel) rfl (Nat.le_of_ble_eq_true rfl) (fun g _ B => wk_X3_isSpent B _ _ J lw hw)
theorem tc_X3_isSpent {g : Gm} {d : TD} {t : Nat} {cc : ByteArray} {nL : Nat} {ret : Option FieldType} {fr lo : Nat} (B : BdT g d cc nL ret fr lo) {J : Nat → Nat → Int32} {lw : Int64} {H0 : Heap} {Q : State → Prop} {pc : Nat} {lc : List (Nat × Value)} {rest : List Value} {p1 : Int32} {Φ : Int32 → (Nat → Nat → Int32) → Int64 → Prop} (hw : wp_X3_isSpent p1 Φ J lw) (hf : 2 ≤ fr) (hlo : 45 ≤ lo) (hrest : (rest.map fun v => v.category).sum ≤ 8) (dg : decode cc pc = .ok (.invokevirtual 345, 3)) (k : ∀ (r : Int32) J' lw', (r = 0 ∨ r = 1) → Φ r J' lw' → GJ g nL (TP d t J' lw' H0) 0 Q (pc + 3) lc (.int r :: rest)) : GJ g nL (TP d t J lw H0) 0 Q pc lc (.int p1 :: rv (t + 1) :: rest) :=
  gt_callV (n := 1) (As := [.int p1]) B (met_X3_isSpent g.2.1 hw) (lw_V q1619 q1621 qs68 q97 q1622) ⟨rfl, by decide +kernel, by decide +kernel, by decide +kernel⟩ rfl hf hlo ⟨Nat.zero_le _, Nat.zero_le _⟩ rfl hrest dg (fun v J' lw' hp => by obtain ⟨r, rfl, hb, hp⟩ := hp; exact k r J' lw' hb hp)
/-! fits(I[I)Z -/
def wj_X3_fits_56 (p1 : Int32) (k2 : Nat) (Φ : Int32 → (Nat → Nat → Int32) → Int64 → Prop) (X2 : Int32 → (Nat → Nat → Int32) → Int64 → Prop) (v3 : Int32) (s0 : Int32) (J : Nat → Nat → Int32) (lw : Int64) : Prop :=
(trk k2 ≠ 0 ∧ (vp_in v3 (tln k2) ∧ (if s0 = (J k2 (Int32.toNatClampNeg v3)) then (∀ x14 : Int32, x14 = v3 + 1 → X2 x14 J lw) else Φ 0 J lw)))
theorem wq_X3_fits_56 {g : Gm} {d : TD} {t : Nat} (B : BdT g d prog_11_method_60_code 5 (some .boolean) 3 67) (p1 : Int32) (k2 : Nat) (Φ : Int32 → (Nat → Nat → Int32) → Int64 → Prop) (X2 : Int32 → (Nat → Nat → Int32) → Int64 → Prop) (hX2 : ∀ v3 J lw, X2 v3 J lw → GJ g 5 (TP d t J lw (gs g).heap) 0 (TQ g d t (ansZ Φ)) 2 [(0, rv (t + 1)), (1, .int p1), (2, rv (ta t k2)), (3, .int v3)] []) (v3 : Int32) (s0 : Int32) (J : Nat → Nat → Int32) (lw : Int64) (hw : wj_X3_fits_56 p1 k2 Φ X2 v3 s0 J lw) : GJ g 5 (TP d t J lw (gs g).heap) 0 (TQ g d t (ansZ Φ)) 56 [(0, rv (t + 1)), (1, .int p1), (2, rv (ta t k2)), (3, .int v3)] [.int s0] := by
  unfold wj_X3_fits_56 at hw
  have C := B.1
  have hW := B.2.1
  refine gj_istore (lc' := [(4, .int s0), (0, rv (t + 1)), (1, .int p1), (2, rv (ta t k2)), (3, .int v3)]) C dX3_fits_56 (Nat.le_of_ble_eq_true rfl) rfl ?_
  refine gj_iload C dX3_fits_58 0 rfl ?_
  refine gj_aload_n C dX3_fits_60 3 rfl ?_
  refine gj_iload_n C dX3_fits_61 4 rfl ?_
  obtain ⟨h11, hw⟩ := hw
  obtain ⟨h12, hw⟩ := hw
  refine gt_iald C hW h11 h12 dX3_fits_62 ?_
  refine gj_icmp_eq (tgt := 68) C dX3_fits_63 rfl (fun c13 => ?_) (fun c13 => ?_)
  · have hw := it_t hw c13
    obtain ⟨x14, ex14⟩ : ∃ x14 : Int32, x14 = v3 + 1 := ⟨_, rfl⟩
    have hw := hw x14 ex14
    refine gj_iinc (lc' := [(3, .int x14), (4, .int s0), (0, rv (t + 1)), (1, .int p1), (2, rv (ta t k2))]) (w := 1) (v := x14) C dX3_fits_68 4 rfl rfl ex14.symm (Nat.le_of_ble_eq_true rfl) rfl ?_
    refine gj_goto (tgt := 2) C dX3_fits_71 rfl ?_
    refine gj_sub (lc' := [(0, rv (t + 1)), (1, .int p1), (2, rv (ta t k2)), (3, .int x14)]) [2, 3, 4, 0] rfl ?_
    exact hX2 _ _ _ hw
  · have hw := it_f hw c13
    refine gj_iconst (v := 0) C dX3_fits_66 rfl ?_
    exact gt_zret B (Or.inl rfl) hw dX3_fits_67

def wf_X3_fits_2 (p1 : Int32) (k2 : Nat) (Φ : Int32 → (Nat → Nat → Int32) → Int64 → Prop) (X2 : Int32 → (Nat → Nat → Int32) → Int64 → Prop) (v3 : Int32) (J : Nat → Nat → Int32) (lw : Int64) : Prop :=
(if (J 0 1) ≤ v3 then Φ 1 J lw else (if ((p1 >>> (v3 &&& 31)) &&& 1) = 0 then (∀ x15 : Int32, x15 = v3 + 1 → X2 x15 J lw) else (vp_in v3 (tln 6) ∧ (if (J 6 (Int32.toNatClampNeg v3)) = (-1) then wj_X3_fits_56 p1 k2 Φ X2 v3 3 J lw else (vp_in v3 (tln 6) ∧ (vp_in v3 (tln 6) ∧ (vp_in (J 6 (Int32.toNatClampNeg v3)) (tln 43) ∧ (wp_X3_signOf (J 6 (Int32.toNatClampNeg v3)) (J 43 (Int32.toNatClampNeg (J 6 (Int32.toNatClampNeg v3)))) (fun r10 J8 l9 => wj_X3_fits_56 p1 k2 Φ X2 v3 r10 J8 l9) J lw))))))))
def wl_X3_fits_2 (p1 : Int32) (k2 : Nat) (Φ : Int32 → (Nat → Nat → Int32) → Int64 → Prop) (v3 : Int32) (J : Nat → Nat → Int32) (lw : Int64) : Prop := ∀ X2 : Int32 → (Nat → Nat → Int32) → Int64 → Prop, (∀ v3 J lw, wf_X3_fits_2 p1 k2 Φ X2 v3 J lw → X2 v3 J lw) → X2 v3 J lw
theorem wk_X3_fits_2 {g : Gm} {d : TD} {t : Nat} (B : BdT g d prog_11_method_60_code 5 (some .boolean) 3 67) (p1 : Int32) (k2 : Nat) (Φ : Int32 → (Nat → Nat → Int32) → Int64 → Prop) (X2 : Int32 → (Nat → Nat → Int32) → Int64 → Prop) (hX2 : ∀ v3 J lw, X2 v3 J lw → GJ g 5 (TP d t J lw (gs g).heap) 0 (TQ g d t (ansZ Φ)) 2 [(0, rv (t + 1)), (1, .int p1), (2, rv (ta t k2)), (3, .int v3)] []) (v3 : Int32) (J : Nat → Nat → Int32) (lw : Int64) (hw : wf_X3_fits_2 p1 k2 Φ X2 v3 J lw) : GJ g 5 (TP d t J lw (gs g).heap) 0 (TQ g d t (ansZ Φ)) 2 [(0, rv (t + 1)), (1, .int p1), (2, rv (ta t k2)), (3, .int v3)] [] := by
  unfold wf_X3_fits_2 at hw
  have C := B.1
  have hW := B.2.1
  refine gj_iload_n C dX3_fits_2 3 rfl ?_
  refine gj_aload_n C dX3_fits_3 0 rfl ?_
  refine tg248 C hW dX3_fits_4 ?_
  refine gj_icmp_ge (tgt := 74) C dX3_fits_7 rfl (fun c1 => ?_) (fun c1 => ?_)
  · have hw := it_t hw c1
    refine gj_iconst (v := 1) C dX3_fits_74 rfl ?_
    exact gt_zret B (Or.inr rfl) hw dX3_fits_75
  · have hw := it_f hw c1
    refine gj_iload_n C dX3_fits_10 1 rfl ?_
    refine gj_iload_n C dX3_fits_11 3 rfl ?_
    refine gj_ishr C dX3_fits_12 ?_
    refine gj_iconst (v := 1) C dX3_fits_13 rfl ?_
    refine gj_iand C dX3_fits_14 ?_
    refine gj_if_ne (tgt := 21) C dX3_fits_15 rfl (fun c2 => ?_) (fun c2 => ?_)
    · have hw := it_f hw c2
      refine gj_aload_n C dX3_fits_21 0 rfl ?_
      refine tg13 C hW dX3_fits_22 ?_
      refine gj_iload_n C dX3_fits_25 3 rfl ?_
      obtain ⟨h3, hw⟩ := hw
      refine gt_iald C hW (by decide) h3 dX3_fits_26 ?_
      refine gj_iconst (v := (-1)) C dX3_fits_27 rfl ?_
      refine gj_icmp_ne (tgt := 35) C dX3_fits_28 rfl (fun c4 => ?_) (fun c4 => ?_)
      · have hw := it_f hw c4
        refine gj_aload_n C dX3_fits_35 0 rfl ?_
        refine gj_aload_n C dX3_fits_36 0 rfl ?_
        refine tg13 C hW dX3_fits_37 ?_
        refine gj_iload_n C dX3_fits_40 3 rfl ?_
        obtain ⟨h5, hw⟩ := hw
        refine gt_iald C hW (by decide) h5 dX3_fits_41 ?_
        refine gj_aload_n C dX3_fits_42 0 rfl ?_
        refine tg77 C hW dX3_fits_43 ?_
        refine gj_aload_n C dX3_fits_46 0 rfl ?_
        refine tg13 C hW dX3_fits_47 ?_
        refine gj_iload_n C dX3_fits_50 3 rfl ?_
        obtain ⟨h6, hw⟩ := hw
        refine gt_iald C hW (by decide) h6 dX3_fits_51 ?_
        obtain ⟨h7, hw⟩ := hw
        refine gt_iald C hW (by decide) h7 dX3_fits_52 ?_
        refine tc_X3_signOf B hw (Nat.le_of_ble_eq_true rfl) (Nat.le_of_ble_eq_true rfl) (Nat.le_of_ble_eq_true rfl) dX3_fits_53 (fun r10 J8 l9 hw => ?_)
        exact wq_X3_fits_56 B _ _ _ _ hX2 _ _ _ _ hw
      · have hw := it_t hw c4
        refine gj_iconst (v := 3) C dX3_fits_31 rfl ?_
        refine gj_goto (tgt := 56) C dX3_fits_32 rfl ?_
        exact wq_X3_fits_56 B _ _ _ _ hX2 _ _ _ _ hw
    · have hw := it_t hw c2
      refine gj_goto (tgt := 68) C dX3_fits_18 rfl ?_
      obtain ⟨x15, ex15⟩ : ∃ x15 : Int32, x15 = v3 + 1 := ⟨_, rfl⟩
      have hw := hw x15 ex15
      refine gj_iinc (lc' := [(3, .int x15), (0, rv (t + 1)), (1, .int p1), (2, rv (ta t k2))]) (w := 1) (v := x15) C dX3_fits_68 3 rfl rfl ex15.symm (Nat.le_of_ble_eq_true rfl) rfl ?_
      refine gj_goto (tgt := 2) C dX3_fits_71 rfl ?_
      refine gj_sub (lc' := [(0, rv (t + 1)), (1, .int p1), (2, rv (ta t k2)), (3, .int x15)]) [1, 2, 3, 0] rfl ?_
      exact hX2 _ _ _ hw

theorem wq_X3_fits_2 {g : Gm} {d : TD} {t : Nat} (B : BdT g d prog_11_method_60_code 5 (some .boolean) 3 67) (p1 : Int32) (k2 : Nat) (Φ : Int32 → (Nat → Nat → Int32) → Int64 → Prop) (v3 : Int32) (J : Nat → Nat → Int32) (lw : Int64) (hw : wl_X3_fits_2 p1 k2 Φ v3 J lw) : GJ g 5 (TP d t J lw (gs g).heap) 0 (TQ g d t (ansZ Φ)) 2 [(0, rv (t + 1)), (1, .int p1), (2, rv (ta t k2)), (3, .int v3)] [] :=
  hw (fun v3 J lw => GJ g 5 (TP d t J lw (gs g).heap) 0 (TQ g d t (ansZ Φ)) 2 [(0, rv (t + 1)), (1, .int p1), (2, rv (ta t k2)), (3, .int v3)] []) (fun v3 J lw h => wk_X3_fits_2 B p1 k2 Φ (fun v3 J lw => GJ g 5 (TP d t J lw (gs g).heap) 0 (TQ g d t (ansZ Φ)) 2 [(0, rv (t + 1)), (1, .int p1), (2, rv (ta t k2)), (3, .int v3)] []) (fun v3 J lw h => h) v3 J lw h)
def wp_X3_fits (p1 : Int32) (k2 : Nat) (Φ : Int32 → (Nat → Nat → Int32) → Int64 → Prop) (J : Nat → Nat → Int32) (lw : Int64) : Prop :=
wl_X3_fits_2 p1 k2 Φ 0 J lw
theorem wk_X3_fits {g : Gm} {d : TD} {t : Nat} (B : BdT g d prog_11_method_60_code 5 (some .boolean) 3 67) (p1 : Int32) (k2 : Nat) (Φ : Int32 → (Nat → Nat → Int32) → Int64 → Prop) (J : Nat → Nat → Int32) (lw : Int64) (hw : wp_X3_fits p1 k2 Φ J lw) : GJ g 5 (TP d t J lw (gs g).heap) 0 (TQ g d t (ansZ Φ)) 0 [(0, rv (t + 1)), (1, .int p1), (2, rv (ta t k2))] [] := by
  unfold wp_X3_fits at hw
  have C := B.1
  have hW := B.2.1
  refine gj_iconst (v := 0) C dX3_fits_0 rfl ?_
  refine gj_istore_n (lc' := [(3, .int 0), (0, rv (t + 1)), (1, .int p1), (2, rv (ta t k2))]) C dX3_fits_1 (Nat.le_of_ble_eq_true rfl) rfl ?_
  refine gj_sub (lc' := [(0, rv (t + 1)), (1, .int p1), (2, rv (ta t k2)), (3, .int 0)]) [1, 2, 3, 0] rfl ?_
  exact wq_X3_fits_2 B _ _ _ _ _ _ hw

theorem met_X3_fits (l : Launch) {d : TD} {t : Nat} {J : Nat → Nat → Int32} {lw : Int64} {p1 : Int32} {k2 : Nat} {Φ : Int32 → (Nat → Nat → Int32) → Int64 → Prop} (hw : wp_X3_fits p1 k2 Φ J lw) : MetT l yX3_fits prog_11_method_60_code 5 (some .boolean) 3 67 [.ref t, .int p1, .ref (t + trk k2)] d t J lw (ansZ Φ) :=
  mt_of (by decide +kernel) rfl (Nat.le_of_ble_eq_true rfl) (fun g _ B => wk_X3_fits B _ _ _ J lw hw)
theorem tc_X3_fits {g : Gm} {d : TD} {t : Nat} {cc : ByteArray} {nL : Nat} {ret : Option FieldType} {fr lo : Nat} (B : BdT g d cc nL ret fr lo) {J : Nat → Nat → Int32} {lw : Int64} {H0 : Heap} {Q : State → Prop} {pc : Nat} {lc : List (Nat × Value)} {rest : List Value} {p1 : Int32} {k2 : Nat} {Φ : Int32 → (Nat → Nat → Int32) → Int64 → Prop} (hw : wp_X3_fits p1 k2 Φ J lw) (hf : 4 ≤ fr) (hlo : 91 ≤ lo) (hrest : (rest.map fun v => v.category).sum ≤ 8) (dg : decode cc pc = .ok (.invokevirtual 334, 3)) (k : ∀ (r : Int32) J' lw', (r = 0 ∨ r = 1) → Φ r J' lw' → GJ g nL (TP d t J' lw' H0) 0 Q (pc + 3) lc (.int r :: rest)) : GJ g nL (TP d t J lw H0) 0 Q pc lc (rv (ta t k2) :: .int p1 :: rv (t + 1) :: rest) :=
  gt_callV (n := 2) (As := [.int p1, .ref (t + trk k2)]) B (met_X3_fits g.2.1 hw) (lw_V q1627 q1629 qs70 q97 q1630) ⟨rfl, by decide +kernel, by decide +kernel, by decide +kernel⟩ rfl hf hlo ⟨Nat.zero_le _, Nat.zero_le _⟩ rfl hrest dg (fun v J' lw' hp => by obtain ⟨r, rfl, hb, hp⟩ := hp; exact k r J' lw' hb hp)
/-! behind(III)I -/
def wf_X3_behind_5 (p1 : Int32) (p2 : Int32) (p3 : Int32) (Φ : Int32 → (Nat → Nat → Int32) → Int64 → Prop) (X5 : Int32 → (Nat → Nat → Int32) → Int64 → Prop) (v4 : Int32) (J : Nat → Nat → Int32) (lw : Int64) : Prop :=
(if 18 ≤ v4 then Φ (-1) J lw else (vp_in ((24 * p1) + p2) (tln 11) ∧ (if (((J 11 (Int32.toNatClampNeg ((24 * p1) + p2))) >>> (v4 &&& 31)) &&& 1) = 1 then Φ v4 J lw else (∀ x5 : Int32, x5 = v4 + 1 → X5 x5 J lw))))
def wl_X3_behind_5 (p1 : Int32) (p2 : Int32) (p3 : Int32) (Φ : Int32 → (Nat → Nat → Int32) → Int64 → Prop) (v4 : Int32) (J : Nat → Nat → Int32) (lw : Int64) : Prop := ∀ X5 : Int32 → (Nat → Nat → Int32) → Int64 → Prop, (∀ v4 J lw, wf_X3_behind_5 p1 p2 p3 Φ X5 v4 J lw → X5 v4 J lw) → X5 v4 J lw
theorem wk_X3_behind_5 {g : Gm} {d : TD} {t : Nat} (B : BdT g d prog_11_method_57_code 5 (some .int) 0 0) (p1 : Int32) (p2 : Int32) (p3 : Int32) (Φ : Int32 → (Nat → Nat → Int32) → Int64 → Prop) (X5 : Int32 → (Nat → Nat → Int32) → Int64 → Prop) (hX5 : ∀ v4 J lw, X5 v4 J lw → GJ g 5 (TP d t J lw (gs g).heap) 0 (TQ g d t (ansI Φ)) 5 [(0, rv (t + 1)), (1, .int p1), (2, .int p2), (4, .int v4)] []) (v4 : Int32) (J : Nat → Nat → Int32) (lw : Int64) (hw : wf_X3_behind_5 p1 p2 p3 Φ X5 v4 J lw) : GJ g 5 (TP d t J lw (gs g).heap) 0 (TQ g d t (ansI Φ)) 5 [(0, rv (t + 1)), (1, .int p1), (2, .int p2), (4, .int v4)] [] := by
  unfold wf_X3_behind_5 at hw
  have C := B.1
  have hW := B.2.1
  refine gj_iload C dX3_behind_5 3 rfl ?_
  refine gj_bipush (v := 18) C dX3_behind_7 rfl ?_
  refine gj_icmp_ge (tgt := 41) C dX3_behind_9 rfl (fun c2 => ?_) (fun c2 => ?_)
  · have hw := it_t hw c2
    refine gj_iconst (v := (-1)) C dX3_behind_41 rfl ?_
    exact gt_iret B hw dX3_behind_42
  · have hw := it_f hw c2
    refine gj_aload_n C dX3_behind_12 0 rfl ?_
    refine tg28 C hW dX3_behind_13 ?_
    refine gj_bipush (v := 24) C dX3_behind_16 rfl ?_
    refine gj_iload_n C dX3_behind_18 1 rfl ?_
    refine gj_imul C dX3_behind_19 ?_
    refine gj_iload_n C dX3_behind_20 2 rfl ?_
    refine gj_iadd C dX3_behind_21 ?_
    obtain ⟨h3, hw⟩ := hw
    refine gt_iald C hW (by decide) h3 dX3_behind_22 ?_
    refine gj_iload C dX3_behind_23 3 rfl ?_
    refine gj_ishr C dX3_behind_25 ?_
    refine gj_iconst (v := 1) C dX3_behind_26 rfl ?_
    refine gj_iand C dX3_behind_27 ?_
    refine gj_iconst (v := 1) C dX3_behind_28 rfl ?_
    refine gj_icmp_ne (tgt := 35) C dX3_behind_29 rfl (fun c4 => ?_) (fun c4 => ?_)
    · have hw := it_f hw c4
      obtain ⟨x5, ex5⟩ : ∃ x5 : Int32, x5 = v4 + 1 := ⟨_, rfl⟩
      have hw := hw x5 ex5
      refine gj_iinc (lc' := [(4, .int x5), (0, rv (t + 1)), (1, .int p1), (2, .int p2)]) (w := 1) (v := x5) C dX3_behind_35 3 rfl rfl ex5.symm (Nat.le_of_ble_eq_true rfl) rfl ?_
      refine gj_goto (tgt := 5) C dX3_behind_38 rfl ?_
      refine gj_sub (lc' := [(0, rv (t + 1)), (1, .int p1), (2, .int p2), (4, .int x5)]) [1, 2, 3, 0] rfl ?_
      exact hX5 _ _ _ hw
    · have hw := it_t hw c4
      refine gj_iload C dX3_behind_32 3 rfl ?_
      exact gt_iret B hw dX3_behind_34

theorem wq_X3_behind_5 {g : Gm} {d : TD} {t : Nat} (B : BdT g d prog_11_method_57_code 5 (some .int) 0 0) (p1 : Int32) (p2 : Int32) (p3 : Int32) (Φ : Int32 → (Nat → Nat → Int32) → Int64 → Prop) (v4 : Int32) (J : Nat → Nat → Int32) (lw : Int64) (hw : wl_X3_behind_5 p1 p2 p3 Φ v4 J lw) : GJ g 5 (TP d t J lw (gs g).heap) 0 (TQ g d t (ansI Φ)) 5 [(0, rv (t + 1)), (1, .int p1), (2, .int p2), (4, .int v4)] [] :=
  hw (fun v4 J lw => GJ g 5 (TP d t J lw (gs g).heap) 0 (TQ g d t (ansI Φ)) 5 [(0, rv (t + 1)), (1, .int p1), (2, .int p2), (4, .int v4)] []) (fun v4 J lw h => wk_X3_behind_5 B p1 p2 p3 Φ (fun v4 J lw => GJ g 5 (TP d t J lw (gs g).heap) 0 (TQ g d t (ansI Φ)) 5 [(0, rv (t + 1)), (1, .int p1), (2, .int p2), (4, .int v4)] []) (fun v4 J lw h => h) v4 J lw h)
def wp_X3_behind (p1 : Int32) (p2 : Int32) (p3 : Int32) (Φ : Int32 → (Nat → Nat → Int32) → Int64 → Prop) (J : Nat → Nat → Int32) (lw : Int64) : Prop :=
(∀ x1 : Int32, x1 = (p3 + 1) → wl_X3_behind_5 p1 p2 p3 Φ x1 J lw)
theorem wk_X3_behind {g : Gm} {d : TD} {t : Nat} (B : BdT g d prog_11_method_57_code 5 (some .int) 0 0) (p1 : Int32) (p2 : Int32) (p3 : Int32) (Φ : Int32 → (Nat → Nat → Int32) → Int64 → Prop) (J : Nat → Nat → Int32) (lw : Int64) (hw : wp_X3_behind p1 p2 p3 Φ J lw) : GJ g 5 (TP d t J lw (gs g).heap) 0 (TQ g d t (ansI Φ)) 0 [(0, rv (t + 1)), (1, .int p1), (2, .int p2), (3, .int p3)] [] := by
  unfold wp_X3_behind at hw
  have C := B.1
  have hW := B.2.1
  refine gj_iload_n C dX3_behind_0 3 rfl ?_
  refine gj_iconst (v := 1) C dX3_behind_1 rfl ?_
  refine gj_iadd C dX3_behind_2 ?_
  refine gj_topi (fun x1 ex1 => ?_)
  have hw := hw x1 ex1
  refine gj_istore (lc' := [(4, .int x1), (0, rv (t + 1)), (1, .int p1), (2, .int p2), (3, .int p3)]) C dX3_behind_3 (Nat.le_of_ble_eq_true rfl) rfl ?_
  refine gj_sub (lc' := [(0, rv (t + 1)), (1, .int p1), (2, .int p2), (4, .int x1)]) [1, 2, 3, 0] rfl ?_
  exact wq_X3_behind_5 B _ _ _ _ _ _ _ hw

theorem met_X3_behind (l : Launch) {d : TD} {t : Nat} {J : Nat → Nat → Int32} {lw : Int64} {p1 : Int32} {p2 : Int32} {p3 : Int32} {Φ : Int32 → (Nat → Nat → Int32) → Int64 → Prop} (hw : wp_X3_behind p1 p2 p3 Φ J lw) : MetT l yX3_behind prog_11_method_57_code 5 (some .int) 0 0 [.ref t, .int p1, .int p2, .int p3] d t J lw (ansI Φ) :=
  mt_of (by decide +kernel) rfl (Nat.le_of_ble_eq_true rfl) (fun g _ B => wk_X3_behind B _ _ _ _ J lw hw)
theorem tc_X3_behind {g : Gm} {d : TD} {t : Nat} {cc : ByteArray} {nL : Nat} {ret : Option FieldType} {fr lo : Nat} (B : BdT g d cc nL ret fr lo) {J : Nat → Nat → Int32} {lw : Int64} {H0 : Heap} {Q : State → Prop} {pc : Nat} {lc : List (Nat × Value)} {rest : List Value} {p1 : Int32} {p2 : Int32} {p3 : Int32} {Φ : Int32 → (Nat → Nat → Int32) → Int64 → Prop} (hw : wp_X3_behind p1 p2 p3 Φ J lw) (hf : 1 ≤ fr) (hlo : 24 ≤ lo) (hrest : (rest.map fun v => v.category).sum ≤ 8) (dg : decode cc pc = .ok (.invokevirtual 327, 3)) (k : ∀ (r : Int32) J' lw', Φ r J' lw' → GJ g nL (TP d t J' lw' H0) 0 Q (pc + 3) lc (.int r :: rest)) : GJ g nL (TP d t J lw H0) 0 Q pc lc (.int p3 :: .int p2 :: .int p1 :: rv (t + 1) :: rest) :=
  gt_callV (n := 3) (As := [.int p1, .int p2, .int p3]) B (met_X3_behind g.2.1 hw) (lw_V q1635 q1637 qs72 q97 q1638) ⟨rfl, by decide +kernel, by decide +kernel, by decide +kernel⟩ rfl hf hlo ⟨Nat.zero_le _, Nat.zero_le _⟩ rfl hrest dg (fun v J' lw' hp => by obtain ⟨r, rfl, hp⟩ := hp; exact k r J' lw' hp)
/-! counts(I)Z -/
def wj_X3_counts_75 (p1 : Int32) (Φ : Int32 → (Nat → Nat → Int32) → Int64 → Prop) (v2 : Int32) (J : Nat → Nat → Int32) (lw : Int64) : Prop :=
(∀ x4 : Int32, x4 = (if v2 < 0 then 0 else 1) → Φ x4 J lw)
theorem wq_X3_counts_75 {g : Gm} {d : TD} {t : Nat} (B : BdT g d prog_11_method_58_code 3 (some .boolean) 1 24) (p1 : Int32) (Φ : Int32 → (Nat → Nat → Int32) → Int64 → Prop) (v2 : Int32) (J : Nat → Nat → Int32) (lw : Int64) (hw : wj_X3_counts_75 p1 Φ v2 J lw) : GJ g 3 (TP d t J lw (gs g).heap) 0 (TQ g d t (ansZ Φ)) 75 [(2, .int v2)] [] := by
  unfold wj_X3_counts_75 at hw
  have C := B.1
  have hW := B.2.1
  refine gj_iload_n C dX3_counts_75 0 rfl ?_
  have key : ∀ x4 : Int32, x4 = (if v2 < 0 then 0 else 1) → GJ g 3 (TP d t J lw (gs g).heap) 0 (TQ g d t (ansZ Φ)) 84 [(2, .int v2)] [.int x4] → GJ g 3 (TP d t J lw (gs g).heap) 0 (TQ g d t (ansZ Φ)) 76 [(2, .int v2)] [.int v2] := by
    intro x4 ex4 kk
    refine gj_if_lt (tgt := 83) C dX3_counts_76 rfl (fun c5 => ?_) (fun c5 => ?_)
    · refine gj_iconst (v := 0) C dX3_counts_83 rfl ?_
      rw [if_pos c5] at ex4
      subst ex4
      exact kk
    · refine gj_iconst (v := 1) C dX3_counts_79 rfl ?_
      refine gj_goto (tgt := 84) C dX3_counts_80 rfl ?_
      rw [if_neg c5] at ex4
      subst ex4
      exact kk
  obtain ⟨x4, ex4⟩ : ∃ x4 : Int32, x4 = (if v2 < 0 then 0 else 1) := ⟨_, rfl⟩
  have bx4 : x4 = 0 ∨ x4 = 1 := by rw [ex4]; (repeat' split) <;> simp
  refine key x4 ex4 ?_
  have hw := hw x4 ex4
  clear key
  exact gt_zret B (bx4) hw dX3_counts_84

def wj_X3_counts_53 (p1 : Int32) (Φ : Int32 → (Nat → Nat → Int32) → Int64 → Prop) (v2 : Int32) (J : Nat → Nat → Int32) (lw : Int64) : Prop :=
(if v2 < 0 then wj_X3_counts_75 p1 Φ v2 J lw else (vp_in v2 (tln 43) ∧ (wp_X3_behind v2 p1 (J 43 (Int32.toNatClampNeg v2)) (fun r9 J7 l8 => (vp_in v2 (tln 43) ∧ (∀ J11 : Nat → Nat → Int32, J11 = u2 J7 43 (Int32.toNatClampNeg v2) r9 → wj_X3_counts_75 p1 Φ v2 J11 l8))) J lw)))
theorem wq_X3_counts_53 {g : Gm} {d : TD} {t : Nat} (B : BdT g d prog_11_method_58_code 3 (some .boolean) 1 24) (p1 : Int32) (Φ : Int32 → (Nat → Nat → Int32) → Int64 → Prop) (v2 : Int32) (J : Nat → Nat → Int32) (lw : Int64) (hw : wj_X3_counts_53 p1 Φ v2 J lw) : GJ g 3 (TP d t J lw (gs g).heap) 0 (TQ g d t (ansZ Φ)) 53 [(0, rv (t + 1)), (1, .int p1), (2, .int v2)] [] := by
  unfold wj_X3_counts_53 at hw
  have C := B.1
  have hW := B.2.1
  refine gj_iload_n C dX3_counts_53 2 rfl ?_
  refine gj_if_lt (tgt := 75) C dX3_counts_54 rfl (fun c3 => ?_) (fun c3 => ?_)
  · have hw := it_t hw c3
    refine gj_sub (lc' := [(2, .int v2)]) [2] rfl ?_
    exact wq_X3_counts_75 B _ _ _ _ _ hw
  · have hw := it_f hw c3
    refine gj_aload_n C dX3_counts_57 0 rfl ?_
    refine tg77 C hW dX3_counts_58 ?_
    refine gj_iload_n C dX3_counts_61 2 rfl ?_
    refine gj_aload_n C dX3_counts_62 0 rfl ?_
    refine gj_iload_n C dX3_counts_63 2 rfl ?_
    refine gj_iload_n C dX3_counts_64 1 rfl ?_
    refine gj_aload_n C dX3_counts_65 0 rfl ?_
    refine tg77 C hW dX3_counts_66 ?_
    refine gj_iload_n C dX3_counts_69 2 rfl ?_
    obtain ⟨h6, hw⟩ := hw
    refine gt_iald C hW (by decide) h6 dX3_counts_70 ?_
    refine tc_X3_behind B hw (Nat.le_of_ble_eq_true rfl) (Nat.le_of_ble_eq_true rfl) (Nat.le_of_ble_eq_true rfl) dX3_counts_71 (fun r9 J7 l8 hw => ?_)
    obtain ⟨h10, hw⟩ := hw
    refine gt_iast C hW (by decide) h10 dX3_counts_74 ?_
    refine gt_nmJ (fun J11 eJ11 => ?_)
    have hw := hw J11 eJ11
    refine gj_sub (lc' := [(2, .int v2)]) [2] rfl ?_
    exact wq_X3_counts_75 B _ _ _ _ _ hw

def wf_X3_counts_7 (p1 : Int32) (Φ : Int32 → (Nat → Nat → Int32) → Int64 → Prop) (X7 : Int32 → (Nat → Nat → Int32) → Int64 → Prop) (v2 : Int32) (J : Nat → Nat → Int32) (lw : Int64) : Prop :=
(if v2 < 0 then wj_X3_counts_53 p1 Φ v2 J lw else (vp_in v2 (tln 43) ∧ (wp_X3_behind v2 p1 (J 43 (Int32.toNatClampNeg v2)) (fun r15 J13 l14 => (if r15 = (-1) then (vp_in ((24 * v2) + p1) (tln 11) ∧ (wp_X3_lowest (J13 11 (Int32.toNatClampNeg ((24 * v2) + p1))) (fun r20 J18 l19 => (vp_in v2 (tln 43) ∧ (∀ J22 : Nat → Nat → Int32, J22 = u2 J18 43 (Int32.toNatClampNeg v2) r20 → (∀ x23 : Int32, x23 = v2 + (-1) → X7 x23 J22 l19)))) J13 l14)) else wj_X3_counts_53 p1 Φ v2 J13 l14)) J lw)))
def wl_X3_counts_7 (p1 : Int32) (Φ : Int32 → (Nat → Nat → Int32) → Int64 → Prop) (v2 : Int32) (J : Nat → Nat → Int32) (lw : Int64) : Prop := ∀ X7 : Int32 → (Nat → Nat → Int32) → Int64 → Prop, (∀ v2 J lw, wf_X3_counts_7 p1 Φ X7 v2 J lw → X7 v2 J lw) → X7 v2 J lw
theorem wk_X3_counts_7 {g : Gm} {d : TD} {t : Nat} (B : BdT g d prog_11_method_58_code 3 (some .boolean) 1 24) (p1 : Int32) (Φ : Int32 → (Nat → Nat → Int32) → Int64 → Prop) (X7 : Int32 → (Nat → Nat → Int32) → Int64 → Prop) (hX7 : ∀ v2 J lw, X7 v2 J lw → GJ g 3 (TP d t J lw (gs g).heap) 0 (TQ g d t (ansZ Φ)) 7 [(0, rv (t + 1)), (1, .int p1), (2, .int v2)] []) (v2 : Int32) (J : Nat → Nat → Int32) (lw : Int64) (hw : wf_X3_counts_7 p1 Φ X7 v2 J lw) : GJ g 3 (TP d t J lw (gs g).heap) 0 (TQ g d t (ansZ Φ)) 7 [(0, rv (t + 1)), (1, .int p1), (2, .int v2)] [] := by
  unfold wf_X3_counts_7 at hw
  have C := B.1
  have hW := B.2.1
  refine gj_iload_n C dX3_counts_7 2 rfl ?_
  refine gj_if_lt (tgt := 53) C dX3_counts_8 rfl (fun c2 => ?_) (fun c2 => ?_)
  · have hw := it_t hw c2
    exact wq_X3_counts_53 B _ _ _ _ _ hw
  · have hw := it_f hw c2
    refine gj_aload_n C dX3_counts_11 0 rfl ?_
    refine gj_iload_n C dX3_counts_12 2 rfl ?_
    refine gj_iload_n C dX3_counts_13 1 rfl ?_
    refine gj_aload_n C dX3_counts_14 0 rfl ?_
    refine tg77 C hW dX3_counts_15 ?_
    refine gj_iload_n C dX3_counts_18 2 rfl ?_
    obtain ⟨h12, hw⟩ := hw
    refine gt_iald C hW (by decide) h12 dX3_counts_19 ?_
    refine tc_X3_behind B hw (Nat.le_of_ble_eq_true rfl) (Nat.le_of_ble_eq_true rfl) (Nat.le_of_ble_eq_true rfl) dX3_counts_20 (fun r15 J13 l14 hw => ?_)
    refine gj_iconst (v := (-1)) C dX3_counts_23 rfl ?_
    refine gj_icmp_ne (tgt := 53) C dX3_counts_24 rfl (fun c16 => ?_) (fun c16 => ?_)
    · have hw := it_f hw c16
      exact wq_X3_counts_53 B _ _ _ _ _ hw
    · have hw := it_t hw c16
      refine gj_aload_n C dX3_counts_27 0 rfl ?_
      refine tg77 C hW dX3_counts_28 ?_
      refine gj_iload_n C dX3_counts_31 2 rfl ?_
      refine gj_aload_n C dX3_counts_32 0 rfl ?_
      refine tg28 C hW dX3_counts_33 ?_
      refine gj_bipush (v := 24) C dX3_counts_36 rfl ?_
      refine gj_iload_n C dX3_counts_38 2 rfl ?_
      refine gj_imul C dX3_counts_39 ?_
      refine gj_iload_n C dX3_counts_40 1 rfl ?_
      refine gj_iadd C dX3_counts_41 ?_
      obtain ⟨h17, hw⟩ := hw
      refine gt_iald C hW (by decide) h17 dX3_counts_42 ?_
      refine tc_X3_lowest B hw (Nat.le_of_ble_eq_true rfl) (Nat.le_of_ble_eq_true rfl) (Nat.le_of_ble_eq_true rfl) dX3_counts_43 (fun r20 J18 l19 hw => ?_)
      obtain ⟨h21, hw⟩ := hw
      refine gt_iast C hW (by decide) h21 dX3_counts_46 ?_
      refine gt_nmJ (fun J22 eJ22 => ?_)
      have hw := hw J22 eJ22
      obtain ⟨x23, ex23⟩ : ∃ x23 : Int32, x23 = v2 + (-1) := ⟨_, rfl⟩
      have hw := hw x23 ex23
      refine gj_iinc (lc' := [(2, .int x23), (0, rv (t + 1)), (1, .int p1)]) (w := (-1)) (v := x23) C dX3_counts_47 2 rfl rfl ex23.symm (Nat.le_of_ble_eq_true rfl) rfl ?_
      refine gj_goto (tgt := 7) C dX3_counts_50 rfl ?_
      refine gj_sub (lc' := [(0, rv (t + 1)), (1, .int p1), (2, .int x23)]) [1, 2, 0] rfl ?_
      exact hX7 _ _ _ hw

theorem wq_X3_counts_7 {g : Gm} {d : TD} {t : Nat} (B : BdT g d prog_11_method_58_code 3 (some .boolean) 1 24) (p1 : Int32) (Φ : Int32 → (Nat → Nat → Int32) → Int64 → Prop) (v2 : Int32) (J : Nat → Nat → Int32) (lw : Int64) (hw : wl_X3_counts_7 p1 Φ v2 J lw) : GJ g 3 (TP d t J lw (gs g).heap) 0 (TQ g d t (ansZ Φ)) 7 [(0, rv (t + 1)), (1, .int p1), (2, .int v2)] [] :=
  hw (fun v2 J lw => GJ g 3 (TP d t J lw (gs g).heap) 0 (TQ g d t (ansZ Φ)) 7 [(0, rv (t + 1)), (1, .int p1), (2, .int v2)] []) (fun v2 J lw h => wk_X3_counts_7 B p1 Φ (fun v2 J lw => GJ g 3 (TP d t J lw (gs g).heap) 0 (TQ g d t (ansZ Φ)) 7 [(0, rv (t + 1)), (1, .int p1), (2, .int v2)] []) (fun v2 J lw h => h) v2 J lw h)
def wp_X3_counts (p1 : Int32) (Φ : Int32 → (Nat → Nat → Int32) → Int64 → Prop) (J : Nat → Nat → Int32) (lw : Int64) : Prop :=
(∀ x1 : Int32, x1 = ((J 0 2) - 1) → wl_X3_counts_7 p1 Φ x1 J lw)
theorem wk_X3_counts {g : Gm} {d : TD} {t : Nat} (B : BdT g d prog_11_method_58_code 3 (some .boolean) 1 24) (p1 : Int32) (Φ : Int32 → (Nat → Nat → Int32) → Int64 → Prop) (J : Nat → Nat → Int32) (lw : Int64) (hw : wp_X3_counts p1 Φ J lw) : GJ g 3 (TP d t J lw (gs g).heap) 0 (TQ g d t (ansZ Φ)) 0 [(0, rv (t + 1)), (1, .int p1)] [] := by
  unfold wp_X3_counts at hw
  have C := B.1
  have hW := B.2.1
  refine gj_aload_n C dX3_counts_0 0 rfl ?_
  refine tg251 C hW dX3_counts_1 ?_
  refine gj_iconst (v := 1) C dX3_counts_4 rfl ?_
  refine gj_isub C dX3_counts_5 ?_
  refine gj_topi (fun x1 ex1 => ?_)
  have hw := hw x1 ex1
  refine gj_istore_n (lc' := [(2, .int x1), (0, rv (t + 1)), (1, .int p1)]) C dX3_counts_6 (Nat.le_of_ble_eq_true rfl) rfl ?_
  refine gj_sub (lc' := [(0, rv (t + 1)), (1, .int p1), (2, .int x1)]) [1, 2, 0] rfl ?_
  exact wq_X3_counts_7 B _ _ _ _ _ hw

theorem met_X3_counts (l : Launch) {d : TD} {t : Nat} {J : Nat → Nat → Int32} {lw : Int64} {p1 : Int32} {Φ : Int32 → (Nat → Nat → Int32) → Int64 → Prop} (hw : wp_X3_counts p1 Φ J lw) : MetT l yX3_counts prog_11_method_58_code 3 (some .boolean) 1 24 [.ref t, .int p1] d t J lw (ansZ Φ) :=
  mt_of (by decide +kernel) rfl (Nat.le_of_ble_eq_true rfl) (fun g _ B => wk_X3_counts B _ _ J lw hw)
theorem tc_X3_counts {g : Gm} {d : TD} {t : Nat} {cc : ByteArray} {nL : Nat} {ret : Option FieldType} {fr lo : Nat} (B : BdT g d cc nL ret fr lo) {J : Nat → Nat → Int32} {lw : Int64} {H0 : Heap} {Q : State → Prop} {pc : Nat} {lc : List (Nat × Value)} {rest : List Value} {p1 : Int32} {Φ : Int32 → (Nat → Nat → Int32) → Int64 → Prop} (hw : wp_X3_counts p1 Φ J lw) (hf : 2 ≤ fr) (hlo : 46 ≤ lo) (hrest : (rest.map fun v => v.category).sum ≤ 8) (dg : decode cc pc = .ok (.invokevirtual 338, 3)) (k : ∀ (r : Int32) J' lw', (r = 0 ∨ r = 1) → Φ r J' lw' → GJ g nL (TP d t J' lw' H0) 0 Q (pc + 3) lc (.int r :: rest)) : GJ g nL (TP d t J lw H0) 0 Q pc lc (.int p1 :: rv (t + 1) :: rest) :=
  gt_callV (n := 1) (As := [.int p1]) B (met_X3_counts g.2.1 hw) (lw_V q1631 q1633 qs71 q97 q1634) ⟨rfl, by decide +kernel, by decide +kernel, by decide +kernel⟩ rfl hf hlo ⟨Nat.zero_le _, Nat.zero_le _⟩ rfl hrest dg (fun v J' lw' hp => by obtain ⟨r, rfl, hb, hp⟩ := hp; exact k r J' lw' hb hp)
/-! seeks(II[I)V -/
def wj_X3_seeks_112 (p1 : Int32) (p2 : Int32) (k3 : Nat) (Φ : (Nat → Nat → Int32) → Int64 → Prop) (X48 : Int32 → (Nat → Nat → Int32) → Int64 → Prop) (J : Nat → Nat → Int32) (lw : Int64) : Prop :=
(wp_X3_counts p1 (fun r10 J8 l9 => X48 r10 J8 l9) J lw)
theorem wq_X3_seeks_112 {g : Gm} {d : TD} {t : Nat} (B : BdT g d prog_11_method_61_code 6 none 4 91) (p1 : Int32) (p2 : Int32) (k3 : Nat) (Φ : (Nat → Nat → Int32) → Int64 → Prop) (X48 : Int32 → (Nat → Nat → Int32) → Int64 → Prop) (hX48 : ∀ v4 J lw, X48 v4 J lw → GJ g 6 (TP d t J lw (gs g).heap) 0 (TQ g d t (ansV Φ)) 48 [(0, rv (t + 1)), (1, .int p1), (2, .int p2), (3, rv (ta t k3)), (4, .int v4)] []) (J : Nat → Nat → Int32) (lw : Int64) (hw : wj_X3_seeks_112 p1 p2 k3 Φ X48 J lw) : GJ g 6 (TP d t J lw (gs g).heap) 0 (TQ g d t (ansV Φ)) 112 [(0, rv (t + 1)), (1, .int p1), (2, .int p2), (3, rv (ta t k3))] [] := by
  unfold wj_X3_seeks_112 at hw
  have C := B.1
  have hW := B.2.1
  refine gj_aload_n C dX3_seeks_112 0 rfl ?_
  refine gj_iload_n C dX3_seeks_113 1 rfl ?_
  refine tc_X3_counts B hw (Nat.le_of_ble_eq_true rfl) (Nat.le_of_ble_eq_true rfl) (Nat.le_of_ble_eq_true rfl) dX3_seeks_114 (fun r10 J8 l9 br10 hw => ?_)
  refine gj_istore (lc' := [(4, .int r10), (0, rv (t + 1)), (1, .int p1), (2, .int p2), (3, rv (ta t k3))]) C dX3_seeks_117 (Nat.le_of_ble_eq_true rfl) rfl ?_
  refine gj_goto (tgt := 48) C dX3_seeks_119 rfl ?_
  refine gj_sub (lc' := [(0, rv (t + 1)), (1, .int p1), (2, .int p2), (3, rv (ta t k3)), (4, .int r10)]) [1, 2, 3, 4, 0] rfl ?_
  exact hX48 _ _ _ hw

def wf_X3_seeks_65 (p1 : Int32) (p2 : Int32) (k3 : Nat) (Φ : (Nat → Nat → Int32) → Int64 → Prop) (X48 : Int32 → (Nat → Nat → Int32) → Int64 → Prop) (X65 : Int32 → (Nat → Nat → Int32) → Int64 → Prop) (v5 : Int32) (J : Nat → Nat → Int32) (lw : Int64) : Prop :=
(if (J 0 2) ≤ v5 then (∀ J12 : Nat → Nat → Int32, J12 = u2 J 0 45 ((J 0 45) + 1) → wj_X3_seeks_112 p1 p2 k3 Φ X48 J12 lw) else (vp_in v5 (tln 43) ∧ (vp_in ((6 * (J 0 45)) + v5) (tln 44) ∧ (∀ J15 : Nat → Nat → Int32, J15 = u2 J 44 (Int32.toNatClampNeg ((6 * (J 0 45)) + v5)) (J 43 (Int32.toNatClampNeg v5)) → (∀ x16 : Int32, x16 = v5 + 1 → X65 x16 J15 lw)))))
def wl_X3_seeks_65 (p1 : Int32) (p2 : Int32) (k3 : Nat) (Φ : (Nat → Nat → Int32) → Int64 → Prop) (X48 : Int32 → (Nat → Nat → Int32) → Int64 → Prop) (v5 : Int32) (J : Nat → Nat → Int32) (lw : Int64) : Prop := ∀ X65 : Int32 → (Nat → Nat → Int32) → Int64 → Prop, (∀ v5 J lw, wf_X3_seeks_65 p1 p2 k3 Φ X48 X65 v5 J lw → X65 v5 J lw) → X65 v5 J lw
theorem wk_X3_seeks_65 {g : Gm} {d : TD} {t : Nat} (B : BdT g d prog_11_method_61_code 6 none 4 91) (p1 : Int32) (p2 : Int32) (k3 : Nat) (Φ : (Nat → Nat → Int32) → Int64 → Prop) (X48 : Int32 → (Nat → Nat → Int32) → Int64 → Prop) (X65 : Int32 → (Nat → Nat → Int32) → Int64 → Prop) (hX48 : ∀ v4 J lw, X48 v4 J lw → GJ g 6 (TP d t J lw (gs g).heap) 0 (TQ g d t (ansV Φ)) 48 [(0, rv (t + 1)), (1, .int p1), (2, .int p2), (3, rv (ta t k3)), (4, .int v4)] []) (hX65 : ∀ v5 J lw, X65 v5 J lw → GJ g 6 (TP d t J lw (gs g).heap) 0 (TQ g d t (ansV Φ)) 65 [(0, rv (t + 1)), (1, .int p1), (2, .int p2), (3, rv (ta t k3)), (5, .int v5)] []) (v5 : Int32) (J : Nat → Nat → Int32) (lw : Int64) (hw : wf_X3_seeks_65 p1 p2 k3 Φ X48 X65 v5 J lw) : GJ g 6 (TP d t J lw (gs g).heap) 0 (TQ g d t (ansV Φ)) 65 [(0, rv (t + 1)), (1, .int p1), (2, .int p2), (3, rv (ta t k3)), (5, .int v5)] [] := by
  unfold wf_X3_seeks_65 at hw
  have C := B.1
  have hW := B.2.1
  refine gj_iload C dX3_seeks_65 4 rfl ?_
  refine gj_aload_n C dX3_seeks_67 0 rfl ?_
  refine tg251 C hW dX3_seeks_68 ?_
  refine gj_icmp_ge (tgt := 102) C dX3_seeks_71 rfl (fun c11 => ?_) (fun c11 => ?_)
  · have hw := it_t hw c11
    refine gj_aload_n C dX3_seeks_102 0 rfl ?_
    refine gj_dup C dX3_seeks_103 (rv_cat _) ?_
    refine tg331 C hW dX3_seeks_104 ?_
    refine gj_iconst (v := 1) C dX3_seeks_107 rfl ?_
    refine gj_iadd C dX3_seeks_108 ?_
    refine tp331 C hW dX3_seeks_109 ?_
    refine gt_nmJ (fun J12 eJ12 => ?_)
    have hw := hw J12 eJ12
    refine gj_sub (lc' := [(0, rv (t + 1)), (1, .int p1), (2, .int p2), (3, rv (ta t k3))]) [0, 1, 2, 3] rfl ?_
    exact wq_X3_seeks_112 B _ _ _ _ _ hX48 _ _ hw
  · have hw := it_f hw c11
    refine gj_aload_n C dX3_seeks_74 0 rfl ?_
    refine tg80 C hW dX3_seeks_75 ?_
    refine gj_bipush (v := 6) C dX3_seeks_78 rfl ?_
    refine gj_aload_n C dX3_seeks_80 0 rfl ?_
    refine tg331 C hW dX3_seeks_81 ?_
    refine gj_imul C dX3_seeks_84 ?_
    refine gj_iload C dX3_seeks_85 4 rfl ?_
    refine gj_iadd C dX3_seeks_87 ?_
    refine gj_aload_n C dX3_seeks_88 0 rfl ?_
    refine tg77 C hW dX3_seeks_89 ?_
    refine gj_iload C dX3_seeks_92 4 rfl ?_
    obtain ⟨h13, hw⟩ := hw
    refine gt_iald C hW (by decide) h13 dX3_seeks_94 ?_
    obtain ⟨h14, hw⟩ := hw
    refine gt_iast C hW (by decide) h14 dX3_seeks_95 ?_
    refine gt_nmJ (fun J15 eJ15 => ?_)
    have hw := hw J15 eJ15
    obtain ⟨x16, ex16⟩ : ∃ x16 : Int32, x16 = v5 + 1 := ⟨_, rfl⟩
    have hw := hw x16 ex16
    refine gj_iinc (lc' := [(5, .int x16), (0, rv (t + 1)), (1, .int p1), (2, .int p2), (3, rv (ta t k3))]) (w := 1) (v := x16) C dX3_seeks_96 4 rfl rfl ex16.symm (Nat.le_of_ble_eq_true rfl) rfl ?_
    refine gj_goto (tgt := 65) C dX3_seeks_99 rfl ?_
    refine gj_sub (lc' := [(0, rv (t + 1)), (1, .int p1), (2, .int p2), (3, rv (ta t k3)), (5, .int x16)]) [1, 2, 3, 4, 0] rfl ?_
    exact hX65 _ _ _ hw

theorem wq_X3_seeks_65 {g : Gm} {d : TD} {t : Nat} (B : BdT g d prog_11_method_61_code 6 none 4 91) (p1 : Int32) (p2 : Int32) (k3 : Nat) (Φ : (Nat → Nat → Int32) → Int64 → Prop) (X48 : Int32 → (Nat → Nat → Int32) → Int64 → Prop) (hX48 : ∀ v4 J lw, X48 v4 J lw → GJ g 6 (TP d t J lw (gs g).heap) 0 (TQ g d t (ansV Φ)) 48 [(0, rv (t + 1)), (1, .int p1), (2, .int p2), (3, rv (ta t k3)), (4, .int v4)] []) (v5 : Int32) (J : Nat → Nat → Int32) (lw : Int64) (hw : wl_X3_seeks_65 p1 p2 k3 Φ X48 v5 J lw) : GJ g 6 (TP d t J lw (gs g).heap) 0 (TQ g d t (ansV Φ)) 65 [(0, rv (t + 1)), (1, .int p1), (2, .int p2), (3, rv (ta t k3)), (5, .int v5)] [] :=
  hw (fun v5 J lw => GJ g 6 (TP d t J lw (gs g).heap) 0 (TQ g d t (ansV Φ)) 65 [(0, rv (t + 1)), (1, .int p1), (2, .int p2), (3, rv (ta t k3)), (5, .int v5)] []) (fun v5 J lw h => wk_X3_seeks_65 B p1 p2 k3 Φ X48 (fun v5 J lw => GJ g 6 (TP d t J lw (gs g).heap) 0 (TQ g d t (ansV Φ)) 65 [(0, rv (t + 1)), (1, .int p1), (2, .int p2), (3, rv (ta t k3)), (5, .int v5)] []) hX48 (fun v5 J lw h => h) v5 J lw h)
def wf_X3_seeks_48 (p1 : Int32) (p2 : Int32) (k3 : Nat) (Φ : (Nat → Nat → Int32) → Int64 → Prop) (X48 : Int32 → (Nat → Nat → Int32) → Int64 → Prop) (v4 : Int32) (J : Nat → Nat → Int32) (lw : Int64) : Prop :=
(if v4 = 0 then Φ J lw else (wp_X3_fits p2 k3 (fun r6 J4 l5 => (if r6 = 0 then wj_X3_seeks_112 p1 p2 k3 Φ X48 J4 l5 else wl_X3_seeks_65 p1 p2 k3 Φ X48 0 J4 l5)) J lw))
def wl_X3_seeks_48 (p1 : Int32) (p2 : Int32) (k3 : Nat) (Φ : (Nat → Nat → Int32) → Int64 → Prop) (v4 : Int32) (J : Nat → Nat → Int32) (lw : Int64) : Prop := ∀ X48 : Int32 → (Nat → Nat → Int32) → Int64 → Prop, (∀ v4 J lw, wf_X3_seeks_48 p1 p2 k3 Φ X48 v4 J lw → X48 v4 J lw) → X48 v4 J lw
theorem wk_X3_seeks_48 {g : Gm} {d : TD} {t : Nat} (B : BdT g d prog_11_method_61_code 6 none 4 91) (p1 : Int32) (p2 : Int32) (k3 : Nat) (Φ : (Nat → Nat → Int32) → Int64 → Prop) (X48 : Int32 → (Nat → Nat → Int32) → Int64 → Prop) (hX48 : ∀ v4 J lw, X48 v4 J lw → GJ g 6 (TP d t J lw (gs g).heap) 0 (TQ g d t (ansV Φ)) 48 [(0, rv (t + 1)), (1, .int p1), (2, .int p2), (3, rv (ta t k3)), (4, .int v4)] []) (v4 : Int32) (J : Nat → Nat → Int32) (lw : Int64) (hw : wf_X3_seeks_48 p1 p2 k3 Φ X48 v4 J lw) : GJ g 6 (TP d t J lw (gs g).heap) 0 (TQ g d t (ansV Φ)) 48 [(0, rv (t + 1)), (1, .int p1), (2, .int p2), (3, rv (ta t k3)), (4, .int v4)] [] := by
  unfold wf_X3_seeks_48 at hw
  have C := B.1
  have hW := B.2.1
  refine gj_iload C dX3_seeks_48 4 rfl ?_
  refine gj_if_eq (tgt := 122) C dX3_seeks_50 rfl (fun c3 => ?_) (fun c3 => ?_)
  · have hw := it_t hw c3
    exact gt_vret B hw dX3_seeks_122
  · have hw := it_f hw c3
    refine gj_aload_n C dX3_seeks_53 0 rfl ?_
    refine gj_iload_n C dX3_seeks_54 2 rfl ?_
    refine gj_aload_n C dX3_seeks_55 3 rfl ?_
    refine tc_X3_fits B hw (Nat.le_of_ble_eq_true rfl) (Nat.le_of_ble_eq_true rfl) (Nat.le_of_ble_eq_true rfl) dX3_seeks_56 (fun r6 J4 l5 br6 hw => ?_)
    refine gj_if_eq (tgt := 112) C dX3_seeks_59 rfl (fun c7 => ?_) (fun c7 => ?_)
    · have hw := it_t hw c7
      refine gj_sub (lc' := [(0, rv (t + 1)), (1, .int p1), (2, .int p2), (3, rv (ta t k3))]) [0, 1, 2, 3] rfl ?_
      exact wq_X3_seeks_112 B _ _ _ _ _ hX48 _ _ hw
    · have hw := it_f hw c7
      refine gj_iconst (v := 0) C dX3_seeks_62 rfl ?_
      refine gj_istore (lc' := [(5, .int 0), (0, rv (t + 1)), (1, .int p1), (2, .int p2), (3, rv (ta t k3)), (4, .int v4)]) C dX3_seeks_63 (Nat.le_of_ble_eq_true rfl) rfl ?_
      refine gj_sub (lc' := [(0, rv (t + 1)), (1, .int p1), (2, .int p2), (3, rv (ta t k3)), (5, .int 0)]) [1, 2, 3, 4, 0] rfl ?_
      exact wq_X3_seeks_65 B _ _ _ _ _ hX48 _ _ _ hw

theorem wq_X3_seeks_48 {g : Gm} {d : TD} {t : Nat} (B : BdT g d prog_11_method_61_code 6 none 4 91) (p1 : Int32) (p2 : Int32) (k3 : Nat) (Φ : (Nat → Nat → Int32) → Int64 → Prop) (v4 : Int32) (J : Nat → Nat → Int32) (lw : Int64) (hw : wl_X3_seeks_48 p1 p2 k3 Φ v4 J lw) : GJ g 6 (TP d t J lw (gs g).heap) 0 (TQ g d t (ansV Φ)) 48 [(0, rv (t + 1)), (1, .int p1), (2, .int p2), (3, rv (ta t k3)), (4, .int v4)] [] :=
  hw (fun v4 J lw => GJ g 6 (TP d t J lw (gs g).heap) 0 (TQ g d t (ansV Φ)) 48 [(0, rv (t + 1)), (1, .int p1), (2, .int p2), (3, rv (ta t k3)), (4, .int v4)] []) (fun v4 J lw h => wk_X3_seeks_48 B p1 p2 k3 Φ (fun v4 J lw => GJ g 6 (TP d t J lw (gs g).heap) 0 (TQ g d t (ansV Φ)) 48 [(0, rv (t + 1)), (1, .int p1), (2, .int p2), (3, rv (ta t k3)), (4, .int v4)] []) (fun v4 J lw h => h) v4 J lw h)
def wf_X3_seeks_8 (p1 : Int32) (p2 : Int32) (k3 : Nat) (Φ : (Nat → Nat → Int32) → Int64 → Prop) (X8 : Int32 → (Nat → Nat → Int32) → Int64 → Prop) (v4 : Int32) (J : Nat → Nat → Int32) (lw : Int64) : Prop :=
(if (J 0 2) ≤ v4 then wl_X3_seeks_48 p1 p2 k3 Φ 1 J lw else (vp_in ((24 * v4) + p1) (tln 11) ∧ (wp_X3_lowest (J 11 (Int32.toNatClampNeg ((24 * v4) + p1))) (fun r20 J18 l19 => (vp_in v4 (tln 43) ∧ (∀ J22 : Nat → Nat → Int32, J22 = u2 J18 43 (Int32.toNatClampNeg v4) r20 → (∀ x23 : Int32, x23 = v4 + 1 → X8 x23 J22 l19)))) J lw)))
def wl_X3_seeks_8 (p1 : Int32) (p2 : Int32) (k3 : Nat) (Φ : (Nat → Nat → Int32) → Int64 → Prop) (v4 : Int32) (J : Nat → Nat → Int32) (lw : Int64) : Prop := ∀ X8 : Int32 → (Nat → Nat → Int32) → Int64 → Prop, (∀ v4 J lw, wf_X3_seeks_8 p1 p2 k3 Φ X8 v4 J lw → X8 v4 J lw) → X8 v4 J lw
theorem wk_X3_seeks_8 {g : Gm} {d : TD} {t : Nat} (B : BdT g d prog_11_method_61_code 6 none 4 91) (p1 : Int32) (p2 : Int32) (k3 : Nat) (Φ : (Nat → Nat → Int32) → Int64 → Prop) (X8 : Int32 → (Nat → Nat → Int32) → Int64 → Prop) (hX8 : ∀ v4 J lw, X8 v4 J lw → GJ g 6 (TP d t J lw (gs g).heap) 0 (TQ g d t (ansV Φ)) 8 [(0, rv (t + 1)), (1, .int p1), (2, .int p2), (3, rv (ta t k3)), (4, .int v4)] []) (v4 : Int32) (J : Nat → Nat → Int32) (lw : Int64) (hw : wf_X3_seeks_8 p1 p2 k3 Φ X8 v4 J lw) : GJ g 6 (TP d t J lw (gs g).heap) 0 (TQ g d t (ansV Φ)) 8 [(0, rv (t + 1)), (1, .int p1), (2, .int p2), (3, rv (ta t k3)), (4, .int v4)] [] := by
  unfold wf_X3_seeks_8 at hw
  have C := B.1
  have hW := B.2.1
  refine gj_iload C dX3_seeks_8 4 rfl ?_
  refine gj_aload_n C dX3_seeks_10 0 rfl ?_
  refine tg251 C hW dX3_seeks_11 ?_
  refine gj_icmp_ge (tgt := 45) C dX3_seeks_14 rfl (fun c2 => ?_) (fun c2 => ?_)
  · have hw := it_t hw c2
    refine gj_iconst (v := 1) C dX3_seeks_45 rfl ?_
    refine gj_istore (lc' := [(4, .int 1), (0, rv (t + 1)), (1, .int p1), (2, .int p2), (3, rv (ta t k3))]) C dX3_seeks_46 (Nat.le_of_ble_eq_true rfl) rfl ?_
    refine gj_sub (lc' := [(0, rv (t + 1)), (1, .int p1), (2, .int p2), (3, rv (ta t k3)), (4, .int 1)]) [1, 2, 3, 4, 0] rfl ?_
    exact wq_X3_seeks_48 B _ _ _ _ _ _ _ hw
  · have hw := it_f hw c2
    refine gj_aload_n C dX3_seeks_17 0 rfl ?_
    refine tg77 C hW dX3_seeks_18 ?_
    refine gj_iload C dX3_seeks_21 4 rfl ?_
    refine gj_aload_n C dX3_seeks_23 0 rfl ?_
    refine tg28 C hW dX3_seeks_24 ?_
    refine gj_bipush (v := 24) C dX3_seeks_27 rfl ?_
    refine gj_iload C dX3_seeks_29 4 rfl ?_
    refine gj_imul C dX3_seeks_31 ?_
    refine gj_iload_n C dX3_seeks_32 1 rfl ?_
    refine gj_iadd C dX3_seeks_33 ?_
    obtain ⟨h17, hw⟩ := hw
    refine gt_iald C hW (by decide) h17 dX3_seeks_34 ?_
    refine tc_X3_lowest B hw (Nat.le_of_ble_eq_true rfl) (Nat.le_of_ble_eq_true rfl) (Nat.le_of_ble_eq_true rfl) dX3_seeks_35 (fun r20 J18 l19 hw => ?_)
    obtain ⟨h21, hw⟩ := hw
    refine gt_iast C hW (by decide) h21 dX3_seeks_38 ?_
    refine gt_nmJ (fun J22 eJ22 => ?_)
    have hw := hw J22 eJ22
    obtain ⟨x23, ex23⟩ : ∃ x23 : Int32, x23 = v4 + 1 := ⟨_, rfl⟩
    have hw := hw x23 ex23
    refine gj_iinc (lc' := [(4, .int x23), (0, rv (t + 1)), (1, .int p1), (2, .int p2), (3, rv (ta t k3))]) (w := 1) (v := x23) C dX3_seeks_39 4 rfl rfl ex23.symm (Nat.le_of_ble_eq_true rfl) rfl ?_
    refine gj_goto (tgt := 8) C dX3_seeks_42 rfl ?_
    refine gj_sub (lc' := [(0, rv (t + 1)), (1, .int p1), (2, .int p2), (3, rv (ta t k3)), (4, .int x23)]) [1, 2, 3, 4, 0] rfl ?_
    exact hX8 _ _ _ hw

theorem wq_X3_seeks_8 {g : Gm} {d : TD} {t : Nat} (B : BdT g d prog_11_method_61_code 6 none 4 91) (p1 : Int32) (p2 : Int32) (k3 : Nat) (Φ : (Nat → Nat → Int32) → Int64 → Prop) (v4 : Int32) (J : Nat → Nat → Int32) (lw : Int64) (hw : wl_X3_seeks_8 p1 p2 k3 Φ v4 J lw) : GJ g 6 (TP d t J lw (gs g).heap) 0 (TQ g d t (ansV Φ)) 8 [(0, rv (t + 1)), (1, .int p1), (2, .int p2), (3, rv (ta t k3)), (4, .int v4)] [] :=
  hw (fun v4 J lw => GJ g 6 (TP d t J lw (gs g).heap) 0 (TQ g d t (ansV Φ)) 8 [(0, rv (t + 1)), (1, .int p1), (2, .int p2), (3, rv (ta t k3)), (4, .int v4)] []) (fun v4 J lw h => wk_X3_seeks_8 B p1 p2 k3 Φ (fun v4 J lw => GJ g 6 (TP d t J lw (gs g).heap) 0 (TQ g d t (ansV Φ)) 8 [(0, rv (t + 1)), (1, .int p1), (2, .int p2), (3, rv (ta t k3)), (4, .int v4)] []) (fun v4 J lw h => h) v4 J lw h)
def wp_X3_seeks (p1 : Int32) (p2 : Int32) (k3 : Nat) (Φ : (Nat → Nat → Int32) → Int64 → Prop) (J : Nat → Nat → Int32) (lw : Int64) : Prop :=
(∀ J1 : Nat → Nat → Int32, J1 = u2 J 0 45 0 → wl_X3_seeks_8 p1 p2 k3 Φ 0 J1 lw)
theorem wk_X3_seeks {g : Gm} {d : TD} {t : Nat} (B : BdT g d prog_11_method_61_code 6 none 4 91) (p1 : Int32) (p2 : Int32) (k3 : Nat) (Φ : (Nat → Nat → Int32) → Int64 → Prop) (J : Nat → Nat → Int32) (lw : Int64) (hw : wp_X3_seeks p1 p2 k3 Φ J lw) : GJ g 6 (TP d t J lw (gs g).heap) 0 (TQ g d t (ansV Φ)) 0 [(0, rv (t + 1)), (1, .int p1), (2, .int p2), (3, rv (ta t k3))] [] := by
  unfold wp_X3_seeks at hw
  have C := B.1
  have hW := B.2.1
  refine gj_aload_n C dX3_seeks_0 0 rfl ?_
  refine gj_iconst (v := 0) C dX3_seeks_1 rfl ?_
  refine tp331 C hW dX3_seeks_2 ?_
  refine gt_nmJ (fun J1 eJ1 => ?_)
  have hw := hw J1 eJ1
  refine gj_iconst (v := 0) C dX3_seeks_5 rfl ?_
  refine gj_istore (lc' := [(4, .int 0), (0, rv (t + 1)), (1, .int p1), (2, .int p2), (3, rv (ta t k3))]) C dX3_seeks_6 (Nat.le_of_ble_eq_true rfl) rfl ?_
  refine gj_sub (lc' := [(0, rv (t + 1)), (1, .int p1), (2, .int p2), (3, rv (ta t k3)), (4, .int 0)]) [1, 2, 3, 4, 0] rfl ?_
  exact wq_X3_seeks_8 B _ _ _ _ _ _ _ hw

theorem met_X3_seeks (l : Launch) {d : TD} {t : Nat} {J : Nat → Nat → Int32} {lw : Int64} {p1 : Int32} {p2 : Int32} {k3 : Nat} {Φ : (Nat → Nat → Int32) → Int64 → Prop} (hw : wp_X3_seeks p1 p2 k3 Φ J lw) : MetT l yX3_seeks prog_11_method_61_code 6 none 4 91 [.ref t, .int p1, .int p2, .ref (t + trk k3)] d t J lw (ansV Φ) :=
  mt_of (by decide +kernel) rfl (Nat.le_of_ble_eq_true rfl) (fun g _ B => wk_X3_seeks B _ _ _ _ J lw hw)
theorem tc_X3_seeks {g : Gm} {d : TD} {t : Nat} {cc : ByteArray} {nL : Nat} {ret : Option FieldType} {fr lo : Nat} (B : BdT g d cc nL ret fr lo) {J : Nat → Nat → Int32} {lw : Int64} {H0 : Heap} {Q : State → Prop} {pc : Nat} {lc : List (Nat × Value)} {rest : List Value} {p1 : Int32} {p2 : Int32} {k3 : Nat} {Φ : (Nat → Nat → Int32) → Int64 → Prop} (hw : wp_X3_seeks p1 p2 k3 Φ J lw) (hf : 5 ≤ fr) (hlo : 116 ≤ lo) (hrest : (rest.map fun v => v.category).sum ≤ 8) (dg : decode cc pc = .ok (.invokevirtual 348, 3)) (k : ∀ J' lw', Φ J' lw' → GJ g nL (TP d t J' lw' H0) 0 Q (pc + 3) lc (rest)) : GJ g nL (TP d t J lw H0) 0 Q pc lc (rv (ta t k3) :: .int p2 :: .int p1 :: rv (t + 1) :: rest) :=
  gt_callV (n := 3) (As := [.int p1, .int p2, .ref (t + trk k3)]) B (met_X3_seeks g.2.1 hw) (lw_V q1623 q1625 qs69 q97 q1626) ⟨rfl, by decide +kernel, by decide +kernel, by decide +kernel⟩ rfl hf hlo ⟨Nat.zero_le _, Nat.zero_le _⟩ rfl hrest dg (fun v J' lw' hp => by obtain ⟨rfl, hp⟩ := hp; exact k J' lw' hp)
/-! cases()I -/
def wp_X3_cases (Φ : Int32 → (Nat → Nat → Int32) → Int64 → Prop) (J : Nat → Nat → Int32) (lw : Int64) : Prop :=
(∀ J1 : Nat → Nat → Int32, J1 = u2 J 0 0 0 → (wp_X3_hour (fun r4 J2 l3 => (wp_X3_isSpent r4 (fun r7 J5 l6 => (if r7 = 0 then (wp_X3_hour (fun r11 J9 l10 => (wp_X3_seeks r11 (J9 0 41) 42 (fun J12 l13 => Φ (J12 0 45) J12 l13) J9 l10)) J5 l6) else Φ (-2) J5 l6)) J2 l3)) J1 lw))
theorem wk_X3_cases {g : Gm} {d : TD} {t : Nat} (B : BdT g d prog_11_method_62_code 1 (some .int) 5 116) (Φ : Int32 → (Nat → Nat → Int32) → Int64 → Prop) (J : Nat → Nat → Int32) (lw : Int64) (hw : wp_X3_cases Φ J lw) : GJ g 1 (TP d t J lw (gs g).heap) 0 (TQ g d t (ansI Φ)) 0 [(0, rv (t + 1))] [] := by
  unfold wp_X3_cases at hw
  have C := B.1
  have hW := B.2.1
  refine gj_aload_n C dX3_cases_0 0 rfl ?_
  refine gj_iconst (v := 0) C dX3_cases_1 rfl ?_
  refine tp134 C hW dX3_cases_2 ?_
  refine gt_nmJ (fun J1 eJ1 => ?_)
  have hw := hw J1 eJ1
  refine gj_aload_n C dX3_cases_5 0 rfl ?_
  refine gj_aload_n C dX3_cases_6 0 rfl ?_
  refine tc_X3_hour B hw (Nat.le_of_ble_eq_true rfl) (Nat.le_of_ble_eq_true rfl) (Nat.le_of_ble_eq_true rfl) dX3_cases_7 (fun r4 J2 l3 hw => ?_)
  refine tc_X3_isSpent B hw (Nat.le_of_ble_eq_true rfl) (Nat.le_of_ble_eq_true rfl) (Nat.le_of_ble_eq_true rfl) dX3_cases_10 (fun r7 J5 l6 br7 hw => ?_)
  refine gj_if_eq (tgt := 19) C dX3_cases_13 rfl (fun c8 => ?_) (fun c8 => ?_)
  · have hw := it_t hw c8
    refine gj_aload_n C dX3_cases_19 0 rfl ?_
    refine gj_aload_n C dX3_cases_20 0 rfl ?_
    refine tc_X3_hour B hw (Nat.le_of_ble_eq_true rfl) (Nat.le_of_ble_eq_true rfl) (Nat.le_of_ble_eq_true rfl) dX3_cases_21 (fun r11 J9 l10 hw => ?_)
    refine gj_aload_n C dX3_cases_24 0 rfl ?_
    refine tg267 C hW dX3_cases_25 ?_
    refine gj_aload_n C dX3_cases_28 0 rfl ?_
    refine tg74 C hW dX3_cases_29 ?_
    refine tc_X3_seeks B hw (Nat.le_of_ble_eq_true rfl) (Nat.le_of_ble_eq_true rfl) (Nat.le_of_ble_eq_true rfl) dX3_cases_32 (fun J12 l13 hw => ?_)
    refine gj_aload_n C dX3_cases_35 0 rfl ?_
    refine tg331 C hW dX3_cases_36 ?_
    exact gt_iret B hw dX3_cases_39
  · have hw := it_f hw c8
    refine gj_bipush (v := (-2)) C dX3_cases_16 rfl ?_
    exact gt_iret B hw dX3_cases_18

theorem met_X3_cases (l : Launch) {d : TD} {t : Nat} {J : Nat → Nat → Int32} {lw : Int64} {Φ : Int32 → (Nat → Nat → Int32) → Int64 → Prop} (hw : wp_X3_cases Φ J lw) : MetT l yX3_cases prog_11_method_62_code 1 (some .int) 5 116 [.ref t] d t J lw (ansI Φ) :=
  mt_of (by decide +kernel) rfl (Nat.le_of_ble_eq_true rfl) (fun g _ B => wk_X3_cases B _ J lw hw)
/-! inCase(II)I -/
def wp_X3_inCase (p1 : Int32) (p2 : Int32) (Φ : Int32 → (Nat → Nat → Int32) → Int64 → Prop) (J : Nat → Nat → Int32) (lw : Int64) : Prop :=
(∀ J1 : Nat → Nat → Int32, J1 = u2 J 0 0 0 → (wp_X3_isLodger p2 (fun r4 J2 l3 => (if r4 = 0 then Φ 0 J2 l3 else (wp_X3_hour (fun r8 J6 l7 => (wp_X3_isSpent r8 (fun r11 J9 l10 => (∀ x12 : Int32, x12 = (if r11 = 0 then 1 else 0) → (wp_X3_right x12 1 (fun r16 J14 l15 => (if r16 = 0 then Φ 0 J14 l15 else (wp_X3_hour (fun r20 J18 l19 => (wp_X3_seeks r20 (J18 0 41) 42 (fun J21 l22 => (∀ x24 : Int32, x24 = (if p1 < 0 then 0 else (if (J21 0 45) ≤ p1 then 0 else 1)) → (wp_X3_right x24 1 (fun r29 J27 l28 => (if r29 = 0 then Φ 0 J27 l28 else (vp_in ((6 * p1) + p2) (tln 44) ∧ (wp_X3_toldOf (J27 44 (Int32.toNatClampNeg ((6 * p1) + p2))) (fun r34 J32 l33 => Φ r34 J32 l33) J27 l28)))) J21 l22))) J18 l19)) J14 l15))) J9 l10))) J6 l7)) J2 l3))) J1 lw))
theorem wk_X3_inCase {g : Gm} {d : TD} {t : Nat} (B : BdT g d prog_11_method_63_code 3 (some .int) 5 116) (p1 : Int32) (p2 : Int32) (Φ : Int32 → (Nat → Nat → Int32) → Int64 → Prop) (J : Nat → Nat → Int32) (lw : Int64) (hw : wp_X3_inCase p1 p2 Φ J lw) : GJ g 3 (TP d t J lw (gs g).heap) 0 (TQ g d t (ansI Φ)) 0 [(0, rv (t + 1)), (1, .int p1), (2, .int p2)] [] := by
  unfold wp_X3_inCase at hw
  have C := B.1
  have hW := B.2.1
  refine gj_aload_n C dX3_inCase_0 0 rfl ?_
  refine gj_iconst (v := 0) C dX3_inCase_1 rfl ?_
  refine tp134 C hW dX3_inCase_2 ?_
  refine gt_nmJ (fun J1 eJ1 => ?_)
  have hw := hw J1 eJ1
  refine gj_aload_n C dX3_inCase_5 0 rfl ?_
  refine gj_iload_n C dX3_inCase_6 2 rfl ?_
  refine tc_X3_isLodger B hw (Nat.le_of_ble_eq_true rfl) (Nat.le_of_ble_eq_true rfl) (Nat.le_of_ble_eq_true rfl) dX3_inCase_7 (fun r4 J2 l3 br4 hw => ?_)
  refine gj_if_eq (tgt := 37) C dX3_inCase_10 rfl (fun c5 => ?_) (fun c5 => ?_)
  · have hw := it_t hw c5
    refine gj_iconst (v := 0) C dX3_inCase_37 rfl ?_
    exact gt_iret B hw dX3_inCase_38
  · have hw := it_f hw c5
    refine gj_aload_n C dX3_inCase_13 0 rfl ?_
    refine gj_aload_n C dX3_inCase_14 0 rfl ?_
    refine gj_aload_n C dX3_inCase_15 0 rfl ?_
    refine tc_X3_hour B hw (Nat.le_of_ble_eq_true rfl) (Nat.le_of_ble_eq_true rfl) (Nat.le_of_ble_eq_true rfl) dX3_inCase_16 (fun r8 J6 l7 hw => ?_)
    refine tc_X3_isSpent B hw (Nat.le_of_ble_eq_true rfl) (Nat.le_of_ble_eq_true rfl) (Nat.le_of_ble_eq_true rfl) dX3_inCase_19 (fun r11 J9 l10 br11 hw => ?_)
    have key : ∀ x12 : Int32, x12 = (if r11 = 0 then 1 else 0) → GJ g 3 (TP d t J9 l10 (gs g).heap) 0 (TQ g d t (ansI Φ)) 30 [(0, rv (t + 1)), (1, .int p1), (2, .int p2)] [.int x12, rv (t + 1)] → GJ g 3 (TP d t J9 l10 (gs g).heap) 0 (TQ g d t (ansI Φ)) 22 [(0, rv (t + 1)), (1, .int p1), (2, .int p2)] [.int r11, rv (t + 1)] := by
      intro x12 ex12 kk
      refine gj_if_ne (tgt := 29) C dX3_inCase_22 rfl (fun c13 => ?_) (fun c13 => ?_)
      · refine gj_iconst (v := 0) C dX3_inCase_29 rfl ?_
        rw [if_neg c13] at ex12
        subst ex12
        exact kk
      · refine gj_iconst (v := 1) C dX3_inCase_25 rfl ?_
        refine gj_goto (tgt := 30) C dX3_inCase_26 rfl ?_
        rw [if_pos c13] at ex12
        subst ex12
        exact kk
    obtain ⟨x12, ex12⟩ : ∃ x12 : Int32, x12 = (if r11 = 0 then 1 else 0) := ⟨_, rfl⟩
    have bx12 : x12 = 0 ∨ x12 = 1 := by rw [ex12]; (repeat' split) <;> simp
    refine key x12 ex12 ?_
    have hw := hw x12 ex12
    clear key
    refine gj_iconst (v := 1) C dX3_inCase_30 rfl ?_
    refine tc_X3_right B hw (Nat.le_of_ble_eq_true rfl) (Nat.le_of_ble_eq_true rfl) (Nat.le_of_ble_eq_true rfl) dX3_inCase_31 (fun r16 J14 l15 br16 hw => ?_)
    refine gj_if_ne (tgt := 39) C dX3_inCase_34 rfl (fun c17 => ?_) (fun c17 => ?_)
    · have hw := it_f hw c17
      refine gj_aload_n C dX3_inCase_39 0 rfl ?_
      refine gj_aload_n C dX3_inCase_40 0 rfl ?_
      refine tc_X3_hour B hw (Nat.le_of_ble_eq_true rfl) (Nat.le_of_ble_eq_true rfl) (Nat.le_of_ble_eq_true rfl) dX3_inCase_41 (fun r20 J18 l19 hw => ?_)
      refine gj_aload_n C dX3_inCase_44 0 rfl ?_
      refine tg267 C hW dX3_inCase_45 ?_
      refine gj_aload_n C dX3_inCase_48 0 rfl ?_
      refine tg74 C hW dX3_inCase_49 ?_
      refine tc_X3_seeks B hw (Nat.le_of_ble_eq_true rfl) (Nat.le_of_ble_eq_true rfl) (Nat.le_of_ble_eq_true rfl) dX3_inCase_52 (fun J21 l22 hw => ?_)
      refine gj_aload_n C dX3_inCase_55 0 rfl ?_
      refine gj_iload_n C dX3_inCase_56 1 rfl ?_
      have key : ∀ x24 : Int32, x24 = (if p1 < 0 then 0 else (if (J21 0 45) ≤ p1 then 0 else 1)) → GJ g 3 (TP d t J21 l22 (gs g).heap) 0 (TQ g d t (ansI Φ)) 73 [(0, rv (t + 1)), (1, .int p1), (2, .int p2)] [.int x24, rv (t + 1)] → GJ g 3 (TP d t J21 l22 (gs g).heap) 0 (TQ g d t (ansI Φ)) 57 [(0, rv (t + 1)), (1, .int p1), (2, .int p2)] [.int p1, rv (t + 1)] := by
        intro x24 ex24 kk
        refine gj_if_lt (tgt := 72) C dX3_inCase_57 rfl (fun c25 => ?_) (fun c25 => ?_)
        · refine gj_iconst (v := 0) C dX3_inCase_72 rfl ?_
          rw [if_pos c25] at ex24
          subst ex24
          exact kk
        · refine gj_iload_n C dX3_inCase_60 1 rfl ?_
          refine gj_aload_n C dX3_inCase_61 0 rfl ?_
          refine tg331 C hW dX3_inCase_62 ?_
          refine gj_icmp_ge (tgt := 72) C dX3_inCase_65 rfl (fun c26 => ?_) (fun c26 => ?_)
          · refine gj_iconst (v := 0) C dX3_inCase_72 rfl ?_
            rw [if_neg c25, if_pos c26] at ex24
            subst ex24
            exact kk
          · refine gj_iconst (v := 1) C dX3_inCase_68 rfl ?_
            refine gj_goto (tgt := 73) C dX3_inCase_69 rfl ?_
            rw [if_neg c25, if_neg c26] at ex24
            subst ex24
            exact kk
      obtain ⟨x24, ex24⟩ : ∃ x24 : Int32, x24 = (if p1 < 0 then 0 else (if (J21 0 45) ≤ p1 then 0 else 1)) := ⟨_, rfl⟩
      have bx24 : x24 = 0 ∨ x24 = 1 := by rw [ex24]; (repeat' split) <;> simp
      refine key x24 ex24 ?_
      have hw := hw x24 ex24
      clear key
      refine gj_iconst (v := 1) C dX3_inCase_73 rfl ?_
      refine tc_X3_right B hw (Nat.le_of_ble_eq_true rfl) (Nat.le_of_ble_eq_true rfl) (Nat.le_of_ble_eq_true rfl) dX3_inCase_74 (fun r29 J27 l28 br29 hw => ?_)
      refine gj_if_eq (tgt := 97) C dX3_inCase_77 rfl (fun c30 => ?_) (fun c30 => ?_)
      · have hw := it_t hw c30
        refine gj_iconst (v := 0) C dX3_inCase_97 rfl ?_
        exact gt_iret B hw dX3_inCase_98
      · have hw := it_f hw c30
        refine gj_aload_n C dX3_inCase_80 0 rfl ?_
        refine tg80 C hW dX3_inCase_81 ?_
        refine gj_bipush (v := 6) C dX3_inCase_84 rfl ?_
        refine gj_iload_n C dX3_inCase_86 1 rfl ?_
        refine gj_imul C dX3_inCase_87 ?_
        refine gj_iload_n C dX3_inCase_88 2 rfl ?_
        refine gj_iadd C dX3_inCase_89 ?_
        obtain ⟨h31, hw⟩ := hw
        refine gt_iald C hW (by decide) h31 dX3_inCase_90 ?_
        refine tc_X3_toldOf B hw (Nat.le_of_ble_eq_true rfl) (Nat.le_of_ble_eq_true rfl) (Nat.le_of_ble_eq_true rfl) dX3_inCase_91 (fun r34 J32 l33 hw => ?_)
        refine gj_goto (tgt := 98) C dX3_inCase_94 rfl ?_
        exact gt_iret B hw dX3_inCase_98
    · have hw := it_t hw c17
      refine gj_iconst (v := 0) C dX3_inCase_37 rfl ?_
      exact gt_iret B hw dX3_inCase_38

theorem met_X3_inCase (l : Launch) {d : TD} {t : Nat} {J : Nat → Nat → Int32} {lw : Int64} {p1 : Int32} {p2 : Int32} {Φ : Int32 → (Nat → Nat → Int32) → Int64 → Prop} (hw : wp_X3_inCase p1 p2 Φ J lw) : MetT l yX3_inCase prog_11_method_63_code 3 (some .int) 5 116 [.ref t, .int p1, .int p2] d t J lw (ansI Φ) :=
  mt_of (by decide +kernel) rfl (Nat.le_of_ble_eq_true rfl) (fun g _ B => wk_X3_inCase B _ _ _ J lw hw)
/-! roomOf(II)I -/
def wp_X3_roomOf (p1 : Int32) (p2 : Int32) (Φ : Int32 → (Nat → Nat → Int32) → Int64 → Prop) (J : Nat → Nat → Int32) (lw : Int64) : Prop :=
(if p2 = 0 then Φ (-1) J lw else (if 4 ≤ p2 then Φ (p2 - 4) J lw else (vp_in p1 (tln 7) ∧ Φ (J 7 (Int32.toNatClampNeg p1)) J lw)))
theorem wk_X3_roomOf {g : Gm} {d : TD} {t : Nat} (B : BdT g d prog_11_method_64_code 3 (some .int) 0 0) (p1 : Int32) (p2 : Int32) (Φ : Int32 → (Nat → Nat → Int32) → Int64 → Prop) (J : Nat → Nat → Int32) (lw : Int64) (hw : wp_X3_roomOf p1 p2 Φ J lw) : GJ g 3 (TP d t J lw (gs g).heap) 0 (TQ g d t (ansI Φ)) 0 [(0, rv (t + 1)), (1, .int p1), (2, .int p2)] [] := by
  unfold wp_X3_roomOf at hw
  have C := B.1
  have hW := B.2.1
  refine gj_iload_n C dX3_roomOf_0 2 rfl ?_
  refine gj_if_ne (tgt := 8) C dX3_roomOf_1 rfl (fun c1 => ?_) (fun c1 => ?_)
  · have hw := it_f hw c1
    refine gj_iload_n C dX3_roomOf_8 2 rfl ?_
    refine gj_iconst (v := 4) C dX3_roomOf_9 rfl ?_
    refine gj_icmp_ge (tgt := 22) C dX3_roomOf_10 rfl (fun c2 => ?_) (fun c2 => ?_)
    · have hw := it_t hw c2
      refine gj_iload_n C dX3_roomOf_22 2 rfl ?_
      refine gj_iconst (v := 4) C dX3_roomOf_23 rfl ?_
      refine gj_isub C dX3_roomOf_24 ?_
      exact gt_iret B hw dX3_roomOf_25
    · have hw := it_f hw c2
      refine gj_aload_n C dX3_roomOf_13 0 rfl ?_
      refine tg16 C hW dX3_roomOf_14 ?_
      refine gj_iload_n C dX3_roomOf_17 1 rfl ?_
      obtain ⟨h3, hw⟩ := hw
      refine gt_iald C hW (by decide) h3 dX3_roomOf_18 ?_
      refine gj_goto (tgt := 25) C dX3_roomOf_19 rfl ?_
      exact gt_iret B hw dX3_roomOf_25
  · have hw := it_t hw c1
    refine gj_iconst (v := (-1)) C dX3_roomOf_4 rfl ?_
    refine gj_goto (tgt := 25) C dX3_roomOf_5 rfl ?_
    exact gt_iret B hw dX3_roomOf_25

theorem met_X3_roomOf (l : Launch) {d : TD} {t : Nat} {J : Nat → Nat → Int32} {lw : Int64} {p1 : Int32} {p2 : Int32} {Φ : Int32 → (Nat → Nat → Int32) → Int64 → Prop} (hw : wp_X3_roomOf p1 p2 Φ J lw) : MetT l yX3_roomOf prog_11_method_64_code 3 (some .int) 0 0 [.ref t, .int p1, .int p2] d t J lw (ansI Φ) :=
  mt_of (by decide +kernel) rfl (Nat.le_of_ble_eq_true rfl) (fun g _ B => wk_X3_roomOf B _ _ _ J lw hw)
theorem tc_X3_roomOf {g : Gm} {d : TD} {t : Nat} {cc : ByteArray} {nL : Nat} {ret : Option FieldType} {fr lo : Nat} (B : BdT g d cc nL ret fr lo) {J : Nat → Nat → Int32} {lw : Int64} {H0 : Heap} {Q : State → Prop} {pc : Nat} {lc : List (Nat × Value)} {rest : List Value} {p1 : Int32} {p2 : Int32} {Φ : Int32 → (Nat → Nat → Int32) → Int64 → Prop} (hw : wp_X3_roomOf p1 p2 Φ J lw) (hf : 1 ≤ fr) (hlo : 22 ≤ lo) (hrest : (rest.map fun v => v.category).sum ≤ 8) (dg : decode cc pc = .ok (.invokevirtual 352, 3)) (k : ∀ (r : Int32) J' lw', Φ r J' lw' → GJ g nL (TP d t J' lw' H0) 0 Q (pc + 3) lc (.int r :: rest)) : GJ g nL (TP d t J lw H0) 0 Q pc lc (.int p2 :: .int p1 :: rv (t + 1) :: rest) :=
  gt_callV (n := 2) (As := [.int p1, .int p2]) B (met_X3_roomOf g.2.1 hw) (lw_V q1655 q1657 qs75 q97 q1658) ⟨rfl, by decide +kernel, by decide +kernel, by decide +kernel⟩ rfl hf hlo ⟨Nat.zero_le _, Nat.zero_le _⟩ rfl hrest dg (fun v J' lw' hp => by obtain ⟨r, rfl, hp⟩ := hp; exact k r J' lw' hp)
/-! isSomebody(II)Z -/
def wf_X3_isSomebody_2 (p1 : Int32) (p2 : Int32) (Φ : Int32 → (Nat → Nat → Int32) → Int64 → Prop) (X2 : Int32 → (Nat → Nat → Int32) → Int64 → Prop) (v3 : Int32) (J : Nat → Nat → Int32) (lw : Int64) : Prop :=
(if (J 0 2) ≤ v3 then Φ 0 J lw else (vp_in ((6 * p1) + v3) (tln 44) ∧ (wp_X3_roomOf v3 (J 44 (Int32.toNatClampNeg ((6 * p1) + v3))) (fun r5 J3 l4 => (if r5 = p2 then Φ 1 J3 l4 else (∀ x7 : Int32, x7 = v3 + 1 → X2 x7 J3 l4))) J lw)))
def wl_X3_isSomebody_2 (p1 : Int32) (p2 : Int32) (Φ : Int32 → (Nat → Nat → Int32) → Int64 → Prop) (v3 : Int32) (J : Nat → Nat → Int32) (lw : Int64) : Prop := ∀ X2 : Int32 → (Nat → Nat → Int32) → Int64 → Prop, (∀ v3 J lw, wf_X3_isSomebody_2 p1 p2 Φ X2 v3 J lw → X2 v3 J lw) → X2 v3 J lw
theorem wk_X3_isSomebody_2 {g : Gm} {d : TD} {t : Nat} (B : BdT g d prog_11_method_65_code 4 (some .boolean) 1 22) (p1 : Int32) (p2 : Int32) (Φ : Int32 → (Nat → Nat → Int32) → Int64 → Prop) (X2 : Int32 → (Nat → Nat → Int32) → Int64 → Prop) (hX2 : ∀ v3 J lw, X2 v3 J lw → GJ g 4 (TP d t J lw (gs g).heap) 0 (TQ g d t (ansZ Φ)) 2 [(0, rv (t + 1)), (1, .int p1), (2, .int p2), (3, .int v3)] []) (v3 : Int32) (J : Nat → Nat → Int32) (lw : Int64) (hw : wf_X3_isSomebody_2 p1 p2 Φ X2 v3 J lw) : GJ g 4 (TP d t J lw (gs g).heap) 0 (TQ g d t (ansZ Φ)) 2 [(0, rv (t + 1)), (1, .int p1), (2, .int p2), (3, .int v3)] [] := by
  unfold wf_X3_isSomebody_2 at hw
  have C := B.1
  have hW := B.2.1
  refine gj_iload_n C dX3_isSomebody_2 3 rfl ?_
  refine gj_aload_n C dX3_isSomebody_3 0 rfl ?_
  refine tg251 C hW dX3_isSomebody_4 ?_
  refine gj_icmp_ge (tgt := 38) C dX3_isSomebody_7 rfl (fun c1 => ?_) (fun c1 => ?_)
  · have hw := it_t hw c1
    refine gj_iconst (v := 0) C dX3_isSomebody_38 rfl ?_
    exact gt_zret B (Or.inl rfl) hw dX3_isSomebody_39
  · have hw := it_f hw c1
    refine gj_aload_n C dX3_isSomebody_10 0 rfl ?_
    refine gj_iload_n C dX3_isSomebody_11 3 rfl ?_
    refine gj_aload_n C dX3_isSomebody_12 0 rfl ?_
    refine tg80 C hW dX3_isSomebody_13 ?_
    refine gj_bipush (v := 6) C dX3_isSomebody_16 rfl ?_
    refine gj_iload_n C dX3_isSomebody_18 1 rfl ?_
    refine gj_imul C dX3_isSomebody_19 ?_
    refine gj_iload_n C dX3_isSomebody_20 3 rfl ?_
    refine gj_iadd C dX3_isSomebody_21 ?_
    obtain ⟨h2, hw⟩ := hw
    refine gt_iald C hW (by decide) h2 dX3_isSomebody_22 ?_
    refine tc_X3_roomOf B hw (Nat.le_of_ble_eq_true rfl) (Nat.le_of_ble_eq_true rfl) (Nat.le_of_ble_eq_true rfl) dX3_isSomebody_23 (fun r5 J3 l4 hw => ?_)
    refine gj_iload_n C dX3_isSomebody_26 2 rfl ?_
    refine gj_icmp_ne (tgt := 32) C dX3_isSomebody_27 rfl (fun c6 => ?_) (fun c6 => ?_)
    · have hw := it_f hw c6
      obtain ⟨x7, ex7⟩ : ∃ x7 : Int32, x7 = v3 + 1 := ⟨_, rfl⟩
      have hw := hw x7 ex7
      refine gj_iinc (lc' := [(3, .int x7), (0, rv (t + 1)), (1, .int p1), (2, .int p2)]) (w := 1) (v := x7) C dX3_isSomebody_32 3 rfl rfl ex7.symm (Nat.le_of_ble_eq_true rfl) rfl ?_
      refine gj_goto (tgt := 2) C dX3_isSomebody_35 rfl ?_
      refine gj_sub (lc' := [(0, rv (t + 1)), (1, .int p1), (2, .int p2), (3, .int x7)]) [1, 2, 3, 0] rfl ?_
      exact hX2 _ _ _ hw
    · have hw := it_t hw c6
      refine gj_iconst (v := 1) C dX3_isSomebody_30 rfl ?_
      exact gt_zret B (Or.inr rfl) hw dX3_isSomebody_31

theorem wq_X3_isSomebody_2 {g : Gm} {d : TD} {t : Nat} (B : BdT g d prog_11_method_65_code 4 (some .boolean) 1 22) (p1 : Int32) (p2 : Int32) (Φ : Int32 → (Nat → Nat → Int32) → Int64 → Prop) (v3 : Int32) (J : Nat → Nat → Int32) (lw : Int64) (hw : wl_X3_isSomebody_2 p1 p2 Φ v3 J lw) : GJ g 4 (TP d t J lw (gs g).heap) 0 (TQ g d t (ansZ Φ)) 2 [(0, rv (t + 1)), (1, .int p1), (2, .int p2), (3, .int v3)] [] :=
  hw (fun v3 J lw => GJ g 4 (TP d t J lw (gs g).heap) 0 (TQ g d t (ansZ Φ)) 2 [(0, rv (t + 1)), (1, .int p1), (2, .int p2), (3, .int v3)] []) (fun v3 J lw h => wk_X3_isSomebody_2 B p1 p2 Φ (fun v3 J lw => GJ g 4 (TP d t J lw (gs g).heap) 0 (TQ g d t (ansZ Φ)) 2 [(0, rv (t + 1)), (1, .int p1), (2, .int p2), (3, .int v3)] []) (fun v3 J lw h => h) v3 J lw h)
def wp_X3_isSomebody (p1 : Int32) (p2 : Int32) (Φ : Int32 → (Nat → Nat → Int32) → Int64 → Prop) (J : Nat → Nat → Int32) (lw : Int64) : Prop :=
wl_X3_isSomebody_2 p1 p2 Φ 0 J lw
theorem wk_X3_isSomebody {g : Gm} {d : TD} {t : Nat} (B : BdT g d prog_11_method_65_code 4 (some .boolean) 1 22) (p1 : Int32) (p2 : Int32) (Φ : Int32 → (Nat → Nat → Int32) → Int64 → Prop) (J : Nat → Nat → Int32) (lw : Int64) (hw : wp_X3_isSomebody p1 p2 Φ J lw) : GJ g 4 (TP d t J lw (gs g).heap) 0 (TQ g d t (ansZ Φ)) 0 [(0, rv (t + 1)), (1, .int p1), (2, .int p2)] [] := by
  unfold wp_X3_isSomebody at hw
  have C := B.1
  have hW := B.2.1
  refine gj_iconst (v := 0) C dX3_isSomebody_0 rfl ?_
  refine gj_istore_n (lc' := [(3, .int 0), (0, rv (t + 1)), (1, .int p1), (2, .int p2)]) C dX3_isSomebody_1 (Nat.le_of_ble_eq_true rfl) rfl ?_
  refine gj_sub (lc' := [(0, rv (t + 1)), (1, .int p1), (2, .int p2), (3, .int 0)]) [1, 2, 3, 0] rfl ?_
  exact wq_X3_isSomebody_2 B _ _ _ _ _ _ hw

theorem met_X3_isSomebody (l : Launch) {d : TD} {t : Nat} {J : Nat → Nat → Int32} {lw : Int64} {p1 : Int32} {p2 : Int32} {Φ : Int32 → (Nat → Nat → Int32) → Int64 → Prop} (hw : wp_X3_isSomebody p1 p2 Φ J lw) : MetT l yX3_isSomebody prog_11_method_65_code 4 (some .boolean) 1 22 [.ref t, .int p1, .int p2] d t J lw (ansZ Φ) :=
  mt_of (by decide +kernel) rfl (Nat.le_of_ble_eq_true rfl) (fun g _ B => wk_X3_isSomebody B _ _ _ J lw hw)
theorem tc_X3_isSomebody {g : Gm} {d : TD} {t : Nat} {cc : ByteArray} {nL : Nat} {ret : Option FieldType} {fr lo : Nat} (B : BdT g d cc nL ret fr lo) {J : Nat → Nat → Int32} {lw : Int64} {H0 : Heap} {Q : State → Prop} {pc : Nat} {lc : List (Nat × Value)} {rest : List Value} {p1 : Int32} {p2 : Int32} {Φ : Int32 → (Nat → Nat → Int32) → Int64 → Prop} (hw : wp_X3_isSomebody p1 p2 Φ J lw) (hf : 2 ≤ fr) (hlo : 45 ≤ lo) (hrest : (rest.map fun v => v.category).sum ≤ 8) (dg : decode cc pc = .ok (.invokevirtual 355, 3)) (k : ∀ (r : Int32) J' lw', (r = 0 ∨ r = 1) → Φ r J' lw' → GJ g nL (TP d t J' lw' H0) 0 Q (pc + 3) lc (.int r :: rest)) : GJ g nL (TP d t J lw H0) 0 Q pc lc (.int p2 :: .int p1 :: rv (t + 1) :: rest) :=
  gt_callV (n := 2) (As := [.int p1, .int p2]) B (met_X3_isSomebody g.2.1 hw) (lw_V q1651 q1653 qs74 q97 q1654) ⟨rfl, by decide +kernel, by decide +kernel, by decide +kernel⟩ rfl hf hlo ⟨Nat.zero_le _, Nat.zero_le _⟩ rfl hrest dg (fun v J' lw' hp => by obtain ⟨r, rfl, hb, hp⟩ := hp; exact k r J' lw' hb hp)
/-! with(I)I -/
def wf_X3_with_4 (p1 : Int32) (Φ : Int32 → (Nat → Nat → Int32) → Int64 → Prop) (X4 : Int32 → Int32 → (Nat → Nat → Int32) → Int64 → Prop) (v2 : Int32) (v3 : Int32) (J : Nat → Nat → Int32) (lw : Int64) : Prop :=
(if (J 0 45) ≤ v3 then Φ v2 J lw else (wp_X3_isSomebody v3 p1 (fun r4 J2 l3 => (∀ x5 : Int32, x5 = (if r4 = 0 then 0 else 1) → (∀ x7 : Int32, x7 = (v2 + x5) → (∀ x8 : Int32, x8 = v3 + 1 → X4 x7 x8 J2 l3)))) J lw))
def wl_X3_with_4 (p1 : Int32) (Φ : Int32 → (Nat → Nat → Int32) → Int64 → Prop) (v2 : Int32) (v3 : Int32) (J : Nat → Nat → Int32) (lw : Int64) : Prop := ∀ X4 : Int32 → Int32 → (Nat → Nat → Int32) → Int64 → Prop, (∀ v2 v3 J lw, wf_X3_with_4 p1 Φ X4 v2 v3 J lw → X4 v2 v3 J lw) → X4 v2 v3 J lw
theorem wk_X3_with_4 {g : Gm} {d : TD} {t : Nat} (B : BdT g d prog_11_method_66_code 4 (some .int) 2 45) (p1 : Int32) (Φ : Int32 → (Nat → Nat → Int32) → Int64 → Prop) (X4 : Int32 → Int32 → (Nat → Nat → Int32) → Int64 → Prop) (hX4 : ∀ v2 v3 J lw, X4 v2 v3 J lw → GJ g 4 (TP d t J lw (gs g).heap) 0 (TQ g d t (ansI Φ)) 4 [(0, rv (t + 1)), (1, .int p1), (2, .int v2), (3, .int v3)] []) (v2 : Int32) (v3 : Int32) (J : Nat → Nat → Int32) (lw : Int64) (hw : wf_X3_with_4 p1 Φ X4 v2 v3 J lw) : GJ g 4 (TP d t J lw (gs g).heap) 0 (TQ g d t (ansI Φ)) 4 [(0, rv (t + 1)), (1, .int p1), (2, .int v2), (3, .int v3)] [] := by
  unfold wf_X3_with_4 at hw
  have C := B.1
  have hW := B.2.1
  refine gj_iload_n C dX3_with_4 3 rfl ?_
  refine gj_aload_n C dX3_with_5 0 rfl ?_
  refine tg331 C hW dX3_with_6 ?_
  refine gj_icmp_ge (tgt := 35) C dX3_with_9 rfl (fun c1 => ?_) (fun c1 => ?_)
  · have hw := it_t hw c1
    refine gj_iload_n C dX3_with_35 2 rfl ?_
    exact gt_iret B hw dX3_with_36
  · have hw := it_f hw c1
    refine gj_iload_n C dX3_with_12 2 rfl ?_
    refine gj_aload_n C dX3_with_13 0 rfl ?_
    refine gj_iload_n C dX3_with_14 3 rfl ?_
    refine gj_iload_n C dX3_with_15 1 rfl ?_
    refine tc_X3_isSomebody B hw (Nat.le_of_ble_eq_true rfl) (Nat.le_of_ble_eq_true rfl) (Nat.le_of_ble_eq_true rfl) dX3_with_16 (fun r4 J2 l3 br4 hw => ?_)
    have key : ∀ x5 : Int32, x5 = (if r4 = 0 then 0 else 1) → GJ g 4 (TP d t J2 l3 (gs g).heap) 0 (TQ g d t (ansI Φ)) 27 [(0, rv (t + 1)), (1, .int p1), (2, .int v2), (3, .int v3)] [.int x5, .int v2] → GJ g 4 (TP d t J2 l3 (gs g).heap) 0 (TQ g d t (ansI Φ)) 19 [(0, rv (t + 1)), (1, .int p1), (2, .int v2), (3, .int v3)] [.int r4, .int v2] := by
      intro x5 ex5 kk
      refine gj_if_eq (tgt := 26) C dX3_with_19 rfl (fun c6 => ?_) (fun c6 => ?_)
      · refine gj_iconst (v := 0) C dX3_with_26 rfl ?_
        rw [if_pos c6] at ex5
        subst ex5
        exact kk
      · refine gj_iconst (v := 1) C dX3_with_22 rfl ?_
        refine gj_goto (tgt := 27) C dX3_with_23 rfl ?_
        rw [if_neg c6] at ex5
        subst ex5
        exact kk
    obtain ⟨x5, ex5⟩ : ∃ x5 : Int32, x5 = (if r4 = 0 then 0 else 1) := ⟨_, rfl⟩
    have bx5 : x5 = 0 ∨ x5 = 1 := by rw [ex5]; (repeat' split) <;> simp
    refine key x5 ex5 ?_
    have hw := hw x5 ex5
    clear key
    refine gj_iadd C dX3_with_27 ?_
    refine gj_topi (fun x7 ex7 => ?_)
    have hw := hw x7 ex7
    refine gj_istore_n (lc' := [(2, .int x7), (0, rv (t + 1)), (1, .int p1), (3, .int v3)]) C dX3_with_28 (Nat.le_of_ble_eq_true rfl) rfl ?_
    obtain ⟨x8, ex8⟩ : ∃ x8 : Int32, x8 = v3 + 1 := ⟨_, rfl⟩
    have hw := hw x8 ex8
    refine gj_iinc (lc' := [(3, .int x8), (2, .int x7), (0, rv (t + 1)), (1, .int p1)]) (w := 1) (v := x8) C dX3_with_29 3 rfl rfl ex8.symm (Nat.le_of_ble_eq_true rfl) rfl ?_
    refine gj_goto (tgt := 4) C dX3_with_32 rfl ?_
    refine gj_sub (lc' := [(0, rv (t + 1)), (1, .int p1), (2, .int x7), (3, .int x8)]) [2, 3, 1, 0] rfl ?_
    exact hX4 _ _ _ _ hw

theorem wq_X3_with_4 {g : Gm} {d : TD} {t : Nat} (B : BdT g d prog_11_method_66_code 4 (some .int) 2 45) (p1 : Int32) (Φ : Int32 → (Nat → Nat → Int32) → Int64 → Prop) (v2 : Int32) (v3 : Int32) (J : Nat → Nat → Int32) (lw : Int64) (hw : wl_X3_with_4 p1 Φ v2 v3 J lw) : GJ g 4 (TP d t J lw (gs g).heap) 0 (TQ g d t (ansI Φ)) 4 [(0, rv (t + 1)), (1, .int p1), (2, .int v2), (3, .int v3)] [] :=
  hw (fun v2 v3 J lw => GJ g 4 (TP d t J lw (gs g).heap) 0 (TQ g d t (ansI Φ)) 4 [(0, rv (t + 1)), (1, .int p1), (2, .int v2), (3, .int v3)] []) (fun v2 v3 J lw h => wk_X3_with_4 B p1 Φ (fun v2 v3 J lw => GJ g 4 (TP d t J lw (gs g).heap) 0 (TQ g d t (ansI Φ)) 4 [(0, rv (t + 1)), (1, .int p1), (2, .int v2), (3, .int v3)] []) (fun v2 v3 J lw h => h) v2 v3 J lw h)
def wp_X3_with (p1 : Int32) (Φ : Int32 → (Nat → Nat → Int32) → Int64 → Prop) (J : Nat → Nat → Int32) (lw : Int64) : Prop :=
wl_X3_with_4 p1 Φ 0 0 J lw
theorem wk_X3_with {g : Gm} {d : TD} {t : Nat} (B : BdT g d prog_11_method_66_code 4 (some .int) 2 45) (p1 : Int32) (Φ : Int32 → (Nat → Nat → Int32) → Int64 → Prop) (J : Nat → Nat → Int32) (lw : Int64) (hw : wp_X3_with p1 Φ J lw) : GJ g 4 (TP d t J lw (gs g).heap) 0 (TQ g d t (ansI Φ)) 0 [(0, rv (t + 1)), (1, .int p1)] [] := by
  unfold wp_X3_with at hw
  have C := B.1
  have hW := B.2.1
  refine gj_iconst (v := 0) C dX3_with_0 rfl ?_
  refine gj_istore_n (lc' := [(2, .int 0), (0, rv (t + 1)), (1, .int p1)]) C dX3_with_1 (Nat.le_of_ble_eq_true rfl) rfl ?_
  refine gj_iconst (v := 0) C dX3_with_2 rfl ?_
  refine gj_istore_n (lc' := [(3, .int 0), (2, .int 0), (0, rv (t + 1)), (1, .int p1)]) C dX3_with_3 (Nat.le_of_ble_eq_true rfl) rfl ?_
  refine gj_sub (lc' := [(0, rv (t + 1)), (1, .int p1), (2, .int 0), (3, .int 0)]) [2, 3, 1, 0] rfl ?_
  exact wq_X3_with_4 B _ _ _ _ _ _ hw

theorem met_X3_with (l : Launch) {d : TD} {t : Nat} {J : Nat → Nat → Int32} {lw : Int64} {p1 : Int32} {Φ : Int32 → (Nat → Nat → Int32) → Int64 → Prop} (hw : wp_X3_with p1 Φ J lw) : MetT l yX3_with prog_11_method_66_code 4 (some .int) 2 45 [.ref t, .int p1] d t J lw (ansI Φ) :=
  mt_of (by decide +kernel) rfl (Nat.le_of_ble_eq_true rfl) (fun g _ B => wk_X3_with B _ _ J lw hw)
theorem tc_X3_with {g : Gm} {d : TD} {t : Nat} {cc : ByteArray} {nL : Nat} {ret : Option FieldType} {fr lo : Nat} (B : BdT g d cc nL ret fr lo) {J : Nat → Nat → Int32} {lw : Int64} {H0 : Heap} {Q : State → Prop} {pc : Nat} {lc : List (Nat × Value)} {rest : List Value} {p1 : Int32} {Φ : Int32 → (Nat → Nat → Int32) → Int64 → Prop} (hw : wp_X3_with p1 Φ J lw) (hf : 3 ≤ fr) (hlo : 68 ≤ lo) (hrest : (rest.map fun v => v.category).sum ≤ 8) (dg : decode cc pc = .ok (.invokevirtual 359, 3)) (k : ∀ (r : Int32) J' lw', Φ r J' lw' → GJ g nL (TP d t J' lw' H0) 0 Q (pc + 3) lc (.int r :: rest)) : GJ g nL (TP d t J lw H0) 0 Q pc lc (.int p1 :: rv (t + 1) :: rest) :=
  gt_callV (n := 1) (As := [.int p1]) B (met_X3_with g.2.1 hw) (lw_V q1647 q1649 qs73 q97 q1650) ⟨rfl, by decide +kernel, by decide +kernel, by decide +kernel⟩ rfl hf hlo ⟨Nat.zero_le _, Nat.zero_le _⟩ rfl hrest dg (fun v J' lw' hp => by obtain ⟨r, rfl, hp⟩ := hp; exact k r J' lw' hp)
/-! sure(I)I -/
def wj_X3_sure_167 (p1 : Int32) (Φ : Int32 → (Nat → Nat → Int32) → Int64 → Prop) (v2 : Int32) (v3 : Int32) (J : Nat → Nat → Int32) (lw : Int64) : Prop :=
(∀ x23 : Int32, x23 = (if p1 = 2 then v3 else v2) → Φ x23 J lw)
theorem wq_X3_sure_167 {g : Gm} {d : TD} {t : Nat} (B : BdT g d prog_11_method_67_code 8 (some .int) 5 116) (p1 : Int32) (Φ : Int32 → (Nat → Nat → Int32) → Int64 → Prop) (v2 : Int32) (v3 : Int32) (J : Nat → Nat → Int32) (lw : Int64) (hw : wj_X3_sure_167 p1 Φ v2 v3 J lw) : GJ g 8 (TP d t J lw (gs g).heap) 0 (TQ g d t (ansI Φ)) 167 [(1, .int p1), (2, .int v2), (3, .int v3)] [] := by
  unfold wj_X3_sure_167 at hw
  have C := B.1
  have hW := B.2.1
  refine gj_iload_n C dX3_sure_167 0 rfl ?_
  refine gj_iconst (v := 2) C dX3_sure_168 rfl ?_
  have key : ∀ x23 : Int32, x23 = (if p1 = 2 then v3 else v2) → GJ g 8 (TP d t J lw (gs g).heap) 0 (TQ g d t (ansI Φ)) 177 [(1, .int p1), (2, .int v2), (3, .int v3)] [.int x23] → GJ g 8 (TP d t J lw (gs g).heap) 0 (TQ g d t (ansI Φ)) 169 [(1, .int p1), (2, .int v2), (3, .int v3)] [.int 2, .int p1] := by
    intro x23 ex23 kk
    refine gj_icmp_ne (tgt := 176) C dX3_sure_169 rfl (fun c24 => ?_) (fun c24 => ?_)
    · refine gj_iload_n C dX3_sure_176 1 rfl ?_
      rw [if_neg c24] at ex23
      subst ex23
      exact kk
    · refine gj_iload_n C dX3_sure_172 2 rfl ?_
      refine gj_goto (tgt := 177) C dX3_sure_173 rfl ?_
      rw [if_pos c24] at ex23
      subst ex23
      exact kk
  obtain ⟨x23, ex23⟩ : ∃ x23 : Int32, x23 = (if p1 = 2 then v3 else v2) := ⟨_, rfl⟩
  refine key x23 ex23 ?_
  have hw := hw x23 ex23
  clear key
  exact gt_iret B hw dX3_sure_177

def wf_X3_sure_61 (p1 : Int32) (Φ : Int32 → (Nat → Nat → Int32) → Int64 → Prop) (X61 : Int32 → Int32 → Int32 → Int32 → (Nat → Nat → Int32) → Int64 → Prop) (v2 : Int32) (v3 : Int32) (v4 : Int32) (v5 : Int32) (J : Nat → Nat → Int32) (lw : Int64) : Prop :=
(if (J 0 1) ≤ v5 then wj_X3_sure_167 p1 Φ v2 v3 J lw else (if (J 0 45) ≤ 0 then wj_X3_sure_167 p1 Φ v2 v3 J lw else (wp_X3_with v5 (fun r28 J26 l27 => (∀ x29 : Int32, x29 = (if p1 = 0 then 0 else (J26 0 45)) → (∀ x31 : Int32, x31 = (if r28 = x29 then ((1 : Int32) <<< (v5 &&& 31)) else 0) → (∀ x33 : Int32, x33 = (v2 ||| x31) → (∀ x34 : Int32, x34 = (if r28 ≤ ((J26 0 45) - r28) then ((J26 0 45) - r28) else r28) → (if v3 = (-1) then (∀ x37 : Int32, x37 = v5 + 1 → X61 x33 v5 x34 x37 J26 l27) else (if x34 < v4 then (∀ x39 : Int32, x39 = v5 + 1 → X61 x33 v5 x34 x39 J26 l27) else (∀ x40 : Int32, x40 = v5 + 1 → X61 x33 v3 v4 x40 J26 l27)))))))) J lw)))
def wl_X3_sure_61 (p1 : Int32) (Φ : Int32 → (Nat → Nat → Int32) → Int64 → Prop) (v2 : Int32) (v3 : Int32) (v4 : Int32) (v5 : Int32) (J : Nat → Nat → Int32) (lw : Int64) : Prop := ∀ X61 : Int32 → Int32 → Int32 → Int32 → (Nat → Nat → Int32) → Int64 → Prop, (∀ v2 v3 v4 v5 J lw, wf_X3_sure_61 p1 Φ X61 v2 v3 v4 v5 J lw → X61 v2 v3 v4 v5 J lw) → X61 v2 v3 v4 v5 J lw
theorem wk_X3_sure_61 {g : Gm} {d : TD} {t : Nat} (B : BdT g d prog_11_method_67_code 8 (some .int) 5 116) (p1 : Int32) (Φ : Int32 → (Nat → Nat → Int32) → Int64 → Prop) (X61 : Int32 → Int32 → Int32 → Int32 → (Nat → Nat → Int32) → Int64 → Prop) (hX61 : ∀ v2 v3 v4 v5 J lw, X61 v2 v3 v4 v5 J lw → GJ g 8 (TP d t J lw (gs g).heap) 0 (TQ g d t (ansI Φ)) 61 [(0, rv (t + 1)), (1, .int p1), (2, .int v2), (3, .int v3), (4, .int v4), (5, .int v5)] []) (v2 : Int32) (v3 : Int32) (v4 : Int32) (v5 : Int32) (J : Nat → Nat → Int32) (lw : Int64) (hw : wf_X3_sure_61 p1 Φ X61 v2 v3 v4 v5 J lw) : GJ g 8 (TP d t J lw (gs g).heap) 0 (TQ g d t (ansI Φ)) 61 [(0, rv (t + 1)), (1, .int p1), (2, .int v2), (3, .int v3), (4, .int v4), (5, .int v5)] [] := by
  unfold wf_X3_sure_61 at hw
  have C := B.1
  have hW := B.2.1
  refine gj_iload C dX3_sure_61 5 rfl ?_
  refine gj_aload_n C dX3_sure_63 0 rfl ?_
  refine tg248 C hW dX3_sure_64 ?_
  refine gj_icmp_ge (tgt := 167) C dX3_sure_67 rfl (fun c22 => ?_) (fun c22 => ?_)
  · have hw := it_t hw c22
    refine gj_sub (lc' := [(1, .int p1), (2, .int v2), (3, .int v3)]) [1, 2, 3] rfl ?_
    exact wq_X3_sure_167 B _ _ _ _ _ _ hw
  · have hw := it_f hw c22
    refine gj_aload_n C dX3_sure_70 0 rfl ?_
    refine tg331 C hW dX3_sure_71 ?_
    refine gj_if_le (tgt := 167) C dX3_sure_74 rfl (fun c25 => ?_) (fun c25 => ?_)
    · have hw := it_t hw c25
      refine gj_sub (lc' := [(1, .int p1), (2, .int v2), (3, .int v3)]) [1, 2, 3] rfl ?_
      exact wq_X3_sure_167 B _ _ _ _ _ _ hw
    · have hw := it_f hw c25
      refine gj_aload_n C dX3_sure_77 0 rfl ?_
      refine gj_iload C dX3_sure_78 5 rfl ?_
      refine tc_X3_with B hw (Nat.le_of_ble_eq_true rfl) (Nat.le_of_ble_eq_true rfl) (Nat.le_of_ble_eq_true rfl) dX3_sure_80 (fun r28 J26 l27 hw => ?_)
      refine gj_istore (lc' := [(6, .int r28), (0, rv (t + 1)), (1, .int p1), (2, .int v2), (3, .int v3), (4, .int v4), (5, .int v5)]) C dX3_sure_83 (Nat.le_of_ble_eq_true rfl) rfl ?_
      refine gj_iload_n C dX3_sure_85 3 rfl ?_
      refine gj_iload C dX3_sure_86 0 rfl ?_
      refine gj_iload_n C dX3_sure_88 2 rfl ?_
      have key : ∀ x29 : Int32, x29 = (if p1 = 0 then 0 else (J26 0 45)) → GJ g 8 (TP d t J26 l27 (gs g).heap) 0 (TQ g d t (ansI Φ)) 100 [(6, .int r28), (0, rv (t + 1)), (1, .int p1), (2, .int v2), (3, .int v3), (4, .int v4), (5, .int v5)] [.int x29, .int r28, .int v2] → GJ g 8 (TP d t J26 l27 (gs g).heap) 0 (TQ g d t (ansI Φ)) 89 [(6, .int r28), (0, rv (t + 1)), (1, .int p1), (2, .int v2), (3, .int v3), (4, .int v4), (5, .int v5)] [.int p1, .int r28, .int v2] := by
        intro x29 ex29 kk
        refine gj_if_ne (tgt := 96) C dX3_sure_89 rfl (fun c30 => ?_) (fun c30 => ?_)
        · refine gj_aload_n C dX3_sure_96 1 rfl ?_
          refine tg331 C hW dX3_sure_97 ?_
          rw [if_neg c30] at ex29
          subst ex29
          exact kk
        · refine gj_iconst (v := 0) C dX3_sure_92 rfl ?_
          refine gj_goto (tgt := 100) C dX3_sure_93 rfl ?_
          rw [if_pos c30] at ex29
          subst ex29
          exact kk
      obtain ⟨x29, ex29⟩ : ∃ x29 : Int32, x29 = (if p1 = 0 then 0 else (J26 0 45)) := ⟨_, rfl⟩
      refine key x29 ex29 ?_
      have hw := hw x29 ex29
      clear key
      have key : ∀ x31 : Int32, x31 = (if r28 = x29 then ((1 : Int32) <<< (v5 &&& 31)) else 0) → GJ g 8 (TP d t J26 l27 (gs g).heap) 0 (TQ g d t (ansI Φ)) 111 [(6, .int r28), (0, rv (t + 1)), (1, .int p1), (2, .int v2), (3, .int v3), (4, .int v4), (5, .int v5)] [.int x31, .int v2] → GJ g 8 (TP d t J26 l27 (gs g).heap) 0 (TQ g d t (ansI Φ)) 100 [(6, .int r28), (0, rv (t + 1)), (1, .int p1), (2, .int v2), (3, .int v3), (4, .int v4), (5, .int v5)] [.int x29, .int r28, .int v2] := by
        intro x31 ex31 kk
        refine gj_icmp_ne (tgt := 110) C dX3_sure_100 rfl (fun c32 => ?_) (fun c32 => ?_)
        · refine gj_iconst (v := 0) C dX3_sure_110 rfl ?_
          rw [if_neg c32] at ex31
          subst ex31
          exact kk
        · refine gj_iconst (v := 1) C dX3_sure_103 rfl ?_
          refine gj_iload C dX3_sure_104 6 rfl ?_
          refine gj_ishl C dX3_sure_106 ?_
          refine gj_goto (tgt := 111) C dX3_sure_107 rfl ?_
          rw [if_pos c32] at ex31
          subst ex31
          exact kk
      obtain ⟨x31, ex31⟩ : ∃ x31 : Int32, x31 = (if r28 = x29 then ((1 : Int32) <<< (v5 &&& 31)) else 0) := ⟨_, rfl⟩
      refine key x31 ex31 ?_
      have hw := hw x31 ex31
      clear key
      refine gj_ior C dX3_sure_111 ?_
      refine gj_topi (fun x33 ex33 => ?_)
      have hw := hw x33 ex33
      refine gj_istore_n (lc' := [(2, .int x33), (6, .int r28), (0, rv (t + 1)), (1, .int p1), (3, .int v3), (4, .int v4), (5, .int v5)]) C dX3_sure_112 (Nat.le_of_ble_eq_true rfl) rfl ?_
      refine gj_iload C dX3_sure_113 1 rfl ?_
      refine gj_aload_n C dX3_sure_115 2 rfl ?_
      refine tg331 C hW dX3_sure_116 ?_
      refine gj_iload C dX3_sure_119 1 rfl ?_
      refine gj_isub C dX3_sure_121 ?_
      have key : ∀ x34 : Int32, x34 = (if r28 ≤ ((J26 0 45) - r28) then ((J26 0 45) - r28) else r28) → GJ g 8 (TP d t J26 l27 (gs g).heap) 0 (TQ g d t (ansI Φ)) 137 [(2, .int x33), (6, .int r28), (0, rv (t + 1)), (1, .int p1), (3, .int v3), (4, .int v4), (5, .int v5)] [.int x34] → GJ g 8 (TP d t J26 l27 (gs g).heap) 0 (TQ g d t (ansI Φ)) 122 [(2, .int x33), (6, .int r28), (0, rv (t + 1)), (1, .int p1), (3, .int v3), (4, .int v4), (5, .int v5)] [.int ((J26 0 45) - r28), .int r28] := by
        intro x34 ex34 kk
        refine gj_icmp_le (tgt := 130) C dX3_sure_122 rfl (fun c35 => ?_) (fun c35 => ?_)
        · refine gj_aload_n C dX3_sure_130 2 rfl ?_
          refine tg331 C hW dX3_sure_131 ?_
          refine gj_iload C dX3_sure_134 1 rfl ?_
          refine gj_isub C dX3_sure_136 ?_
          rw [if_pos c35] at ex34
          subst ex34
          exact kk
        · refine gj_iload C dX3_sure_125 1 rfl ?_
          refine gj_goto (tgt := 137) C dX3_sure_127 rfl ?_
          rw [if_neg c35] at ex34
          subst ex34
          exact kk
      obtain ⟨x34, ex34⟩ : ∃ x34 : Int32, x34 = (if r28 ≤ ((J26 0 45) - r28) then ((J26 0 45) - r28) else r28) := ⟨_, rfl⟩
      refine key x34 ex34 ?_
      have hw := hw x34 ex34
      clear key
      refine gj_istore (lc' := [(7, .int x34), (2, .int x33), (6, .int r28), (0, rv (t + 1)), (1, .int p1), (3, .int v3), (4, .int v4), (5, .int v5)]) C dX3_sure_137 (Nat.le_of_ble_eq_true rfl) rfl ?_
      refine gj_iload_n C dX3_sure_139 5 rfl ?_
      refine gj_iconst (v := (-1)) C dX3_sure_140 rfl ?_
      refine gj_icmp_eq (tgt := 154) C dX3_sure_141 rfl (fun c36 => ?_) (fun c36 => ?_)
      · have hw := it_t hw c36
        refine gj_iload C dX3_sure_154 7 rfl ?_
        refine gj_istore_n (lc' := [(3, .int v5), (7, .int x34), (2, .int x33), (6, .int r28), (0, rv (t + 1)), (1, .int p1), (4, .int v4), (5, .int v5)]) C dX3_sure_156 (Nat.le_of_ble_eq_true rfl) rfl ?_
        refine gj_iload C dX3_sure_157 1 rfl ?_
        refine gj_istore (lc' := [(4, .int x34), (3, .int v5), (7, .int x34), (2, .int x33), (6, .int r28), (0, rv (t + 1)), (1, .int p1), (5, .int v5)]) C dX3_sure_159 (Nat.le_of_ble_eq_true rfl) rfl ?_
        obtain ⟨x37, ex37⟩ : ∃ x37 : Int32, x37 = v5 + 1 := ⟨_, rfl⟩
        have hw := hw x37 ex37
        refine gj_iinc (lc' := [(5, .int x37), (4, .int x34), (3, .int v5), (7, .int x34), (2, .int x33), (6, .int r28), (0, rv (t + 1)), (1, .int p1)]) (w := 1) (v := x37) C dX3_sure_161 7 rfl rfl ex37.symm (Nat.le_of_ble_eq_true rfl) rfl ?_
        refine gj_goto (tgt := 61) C dX3_sure_164 rfl ?_
        refine gj_sub (lc' := [(0, rv (t + 1)), (1, .int p1), (2, .int x33), (3, .int v5), (4, .int x34), (5, .int x37)]) [6, 7, 4, 2, 1, 0] rfl ?_
        exact hX61 _ _ _ _ _ _ hw
      · have hw := it_f hw c36
        refine gj_iload C dX3_sure_144 0 rfl ?_
        refine gj_iload C dX3_sure_146 6 rfl ?_
        refine gj_icmp_lt (tgt := 154) C dX3_sure_148 rfl (fun c38 => ?_) (fun c38 => ?_)
        · have hw := it_t hw c38
          refine gj_iload C dX3_sure_154 7 rfl ?_
          refine gj_istore_n (lc' := [(3, .int v5), (7, .int x34), (2, .int x33), (6, .int r28), (0, rv (t + 1)), (1, .int p1), (4, .int v4), (5, .int v5)]) C dX3_sure_156 (Nat.le_of_ble_eq_true rfl) rfl ?_
          refine gj_iload C dX3_sure_157 1 rfl ?_
          refine gj_istore (lc' := [(4, .int x34), (3, .int v5), (7, .int x34), (2, .int x33), (6, .int r28), (0, rv (t + 1)), (1, .int p1), (5, .int v5)]) C dX3_sure_159 (Nat.le_of_ble_eq_true rfl) rfl ?_
          obtain ⟨x39, ex39⟩ : ∃ x39 : Int32, x39 = v5 + 1 := ⟨_, rfl⟩
          have hw := hw x39 ex39
          refine gj_iinc (lc' := [(5, .int x39), (4, .int x34), (3, .int v5), (7, .int x34), (2, .int x33), (6, .int r28), (0, rv (t + 1)), (1, .int p1)]) (w := 1) (v := x39) C dX3_sure_161 7 rfl rfl ex39.symm (Nat.le_of_ble_eq_true rfl) rfl ?_
          refine gj_goto (tgt := 61) C dX3_sure_164 rfl ?_
          refine gj_sub (lc' := [(0, rv (t + 1)), (1, .int p1), (2, .int x33), (3, .int v5), (4, .int x34), (5, .int x39)]) [6, 7, 4, 2, 1, 0] rfl ?_
          exact hX61 _ _ _ _ _ _ hw
        · have hw := it_f hw c38
          refine gj_goto (tgt := 161) C dX3_sure_151 rfl ?_
          obtain ⟨x40, ex40⟩ : ∃ x40 : Int32, x40 = v5 + 1 := ⟨_, rfl⟩
          have hw := hw x40 ex40
          refine gj_iinc (lc' := [(5, .int x40), (7, .int x34), (2, .int x33), (6, .int r28), (0, rv (t + 1)), (1, .int p1), (3, .int v3), (4, .int v4)]) (w := 1) (v := x40) C dX3_sure_161 7 rfl rfl ex40.symm (Nat.le_of_ble_eq_true rfl) rfl ?_
          refine gj_goto (tgt := 61) C dX3_sure_164 rfl ?_
          refine gj_sub (lc' := [(0, rv (t + 1)), (1, .int p1), (2, .int x33), (3, .int v3), (4, .int v4), (5, .int x40)]) [4, 5, 2, 6, 7, 0] rfl ?_
          exact hX61 _ _ _ _ _ _ hw

theorem wq_X3_sure_61 {g : Gm} {d : TD} {t : Nat} (B : BdT g d prog_11_method_67_code 8 (some .int) 5 116) (p1 : Int32) (Φ : Int32 → (Nat → Nat → Int32) → Int64 → Prop) (v2 : Int32) (v3 : Int32) (v4 : Int32) (v5 : Int32) (J : Nat → Nat → Int32) (lw : Int64) (hw : wl_X3_sure_61 p1 Φ v2 v3 v4 v5 J lw) : GJ g 8 (TP d t J lw (gs g).heap) 0 (TQ g d t (ansI Φ)) 61 [(0, rv (t + 1)), (1, .int p1), (2, .int v2), (3, .int v3), (4, .int v4), (5, .int v5)] [] :=
  hw (fun v2 v3 v4 v5 J lw => GJ g 8 (TP d t J lw (gs g).heap) 0 (TQ g d t (ansI Φ)) 61 [(0, rv (t + 1)), (1, .int p1), (2, .int v2), (3, .int v3), (4, .int v4), (5, .int v5)] []) (fun v2 v3 v4 v5 J lw h => wk_X3_sure_61 B p1 Φ (fun v2 v3 v4 v5 J lw => GJ g 8 (TP d t J lw (gs g).heap) 0 (TQ g d t (ansI Φ)) 61 [(0, rv (t + 1)), (1, .int p1), (2, .int v2), (3, .int v3), (4, .int v4), (5, .int v5)] []) (fun v2 v3 v4 v5 J lw h => h) v2 v3 v4 v5 J lw h)
def wp_X3_sure (p1 : Int32) (Φ : Int32 → (Nat → Nat → Int32) → Int64 → Prop) (J : Nat → Nat → Int32) (lw : Int64) : Prop :=
(∀ J1 : Nat → Nat → Int32, J1 = u2 J 0 0 0 → (wp_X3_within p1 0 2 (fun r4 J2 l3 => (wp_X3_right r4 1 (fun r7 J5 l6 => (if r7 = 0 then Φ 0 J5 l6 else (wp_X3_hour (fun r11 J9 l10 => (wp_X3_isSpent r11 (fun r14 J12 l13 => (if r14 = 0 then (wp_X3_hour (fun r18 J16 l17 => (wp_X3_seeks r18 (J16 0 41) 42 (fun J19 l20 => wl_X3_sure_61 p1 Φ 0 (-1) 0 0 J19 l20) J16 l17)) J12 l13) else Φ (-2) J12 l13)) J9 l10)) J5 l6))) J2 l3)) J1 lw))
theorem wk_X3_sure {g : Gm} {d : TD} {t : Nat} (B : BdT g d prog_11_method_67_code 8 (some .int) 5 116) (p1 : Int32) (Φ : Int32 → (Nat → Nat → Int32) → Int64 → Prop) (J : Nat → Nat → Int32) (lw : Int64) (hw : wp_X3_sure p1 Φ J lw) : GJ g 8 (TP d t J lw (gs g).heap) 0 (TQ g d t (ansI Φ)) 0 [(0, rv (t + 1)), (1, .int p1)] [] := by
  unfold wp_X3_sure at hw
  have C := B.1
  have hW := B.2.1
  refine gj_aload_n C dX3_sure_0 0 rfl ?_
  refine gj_iconst (v := 0) C dX3_sure_1 rfl ?_
  refine tp134 C hW dX3_sure_2 ?_
  refine gt_nmJ (fun J1 eJ1 => ?_)
  have hw := hw J1 eJ1
  refine gj_aload_n C dX3_sure_5 0 rfl ?_
  refine gj_iload_n C dX3_sure_6 1 rfl ?_
  refine gj_iconst (v := 0) C dX3_sure_7 rfl ?_
  refine gj_iconst (v := 2) C dX3_sure_8 rfl ?_
  refine tc_X3_within B hw (Nat.le_of_ble_eq_true rfl) (Nat.le_of_ble_eq_true rfl) (Nat.le_of_ble_eq_true rfl) dX3_sure_9 (fun r4 J2 l3 br4 hw => ?_)
  refine gj_iconst (v := 1) C dX3_sure_12 rfl ?_
  refine tc_X3_right B hw (Nat.le_of_ble_eq_true rfl) (Nat.le_of_ble_eq_true rfl) (Nat.le_of_ble_eq_true rfl) dX3_sure_13 (fun r7 J5 l6 br7 hw => ?_)
  refine gj_if_ne (tgt := 21) C dX3_sure_16 rfl (fun c8 => ?_) (fun c8 => ?_)
  · have hw := it_f hw c8
    refine gj_aload_n C dX3_sure_21 0 rfl ?_
    refine gj_aload_n C dX3_sure_22 0 rfl ?_
    refine tc_X3_hour B hw (Nat.le_of_ble_eq_true rfl) (Nat.le_of_ble_eq_true rfl) (Nat.le_of_ble_eq_true rfl) dX3_sure_23 (fun r11 J9 l10 hw => ?_)
    refine tc_X3_isSpent B hw (Nat.le_of_ble_eq_true rfl) (Nat.le_of_ble_eq_true rfl) (Nat.le_of_ble_eq_true rfl) dX3_sure_26 (fun r14 J12 l13 br14 hw => ?_)
    refine gj_if_eq (tgt := 35) C dX3_sure_29 rfl (fun c15 => ?_) (fun c15 => ?_)
    · have hw := it_t hw c15
      refine gj_aload_n C dX3_sure_35 0 rfl ?_
      refine gj_aload_n C dX3_sure_36 0 rfl ?_
      refine tc_X3_hour B hw (Nat.le_of_ble_eq_true rfl) (Nat.le_of_ble_eq_true rfl) (Nat.le_of_ble_eq_true rfl) dX3_sure_37 (fun r18 J16 l17 hw => ?_)
      refine gj_aload_n C dX3_sure_40 0 rfl ?_
      refine tg267 C hW dX3_sure_41 ?_
      refine gj_aload_n C dX3_sure_44 0 rfl ?_
      refine tg74 C hW dX3_sure_45 ?_
      refine tc_X3_seeks B hw (Nat.le_of_ble_eq_true rfl) (Nat.le_of_ble_eq_true rfl) (Nat.le_of_ble_eq_true rfl) dX3_sure_48 (fun J19 l20 hw => ?_)
      refine gj_iconst (v := 0) C dX3_sure_51 rfl ?_
      refine gj_istore_n (lc' := [(2, .int 0), (0, rv (t + 1)), (1, .int p1)]) C dX3_sure_52 (Nat.le_of_ble_eq_true rfl) rfl ?_
      refine gj_iconst (v := (-1)) C dX3_sure_53 rfl ?_
      refine gj_istore_n (lc' := [(3, .int (-1)), (2, .int 0), (0, rv (t + 1)), (1, .int p1)]) C dX3_sure_54 (Nat.le_of_ble_eq_true rfl) rfl ?_
      refine gj_iconst (v := 0) C dX3_sure_55 rfl ?_
      refine gj_istore (lc' := [(4, .int 0), (3, .int (-1)), (2, .int 0), (0, rv (t + 1)), (1, .int p1)]) C dX3_sure_56 (Nat.le_of_ble_eq_true rfl) rfl ?_
      refine gj_iconst (v := 0) C dX3_sure_58 rfl ?_
      refine gj_istore (lc' := [(5, .int 0), (4, .int 0), (3, .int (-1)), (2, .int 0), (0, rv (t + 1)), (1, .int p1)]) C dX3_sure_59 (Nat.le_of_ble_eq_true rfl) rfl ?_
      refine gj_sub (lc' := [(0, rv (t + 1)), (1, .int p1), (2, .int 0), (3, .int (-1)), (4, .int 0), (5, .int 0)]) [4, 5, 3, 2, 1, 0] rfl ?_
      exact wq_X3_sure_61 B _ _ _ _ _ _ _ _ hw
    · have hw := it_f hw c15
      refine gj_bipush (v := (-2)) C dX3_sure_32 rfl ?_
      exact gt_iret B hw dX3_sure_34
  · have hw := it_t hw c8
    refine gj_iconst (v := 0) C dX3_sure_19 rfl ?_
    exact gt_iret B hw dX3_sure_20

theorem met_X3_sure (l : Launch) {d : TD} {t : Nat} {J : Nat → Nat → Int32} {lw : Int64} {p1 : Int32} {Φ : Int32 → (Nat → Nat → Int32) → Int64 → Prop} (hw : wp_X3_sure p1 Φ J lw) : MetT l yX3_sure prog_11_method_67_code 8 (some .int) 5 116 [.ref t, .int p1] d t J lw (ansI Φ) :=
  mt_of (by decide +kernel) rfl (Nat.le_of_ble_eq_true rfl) (fun g _ B => wk_X3_sure B _ _ J lw hw)
/-! where(I)I -/
def wf_X3_where_49 (p1 : Int32) (Φ : Int32 → (Nat → Nat → Int32) → Int64 → Prop) (X49 : Int32 → Int32 → (Nat → Nat → Int32) → Int64 → Prop) (v2 : Int32) (v3 : Int32) (J : Nat → Nat → Int32) (lw : Int64) : Prop :=
(if (J 0 45) ≤ v3 then Φ v2 J lw else (vp_in ((6 * v3) + p1) (tln 44) ∧ (wp_X3_roomOf p1 (J 44 (Int32.toNatClampNeg ((6 * v3) + p1))) (fun r23 J21 l22 => (∀ x24 : Int32, x24 = (if r23 = (-1) then 0 else ((1 : Int32) <<< (r23 &&& 31))) → (∀ x26 : Int32, x26 = (v2 ||| x24) → (∀ x27 : Int32, x27 = v3 + 1 → X49 x26 x27 J21 l22)))) J lw)))
def wl_X3_where_49 (p1 : Int32) (Φ : Int32 → (Nat → Nat → Int32) → Int64 → Prop) (v2 : Int32) (v3 : Int32) (J : Nat → Nat → Int32) (lw : Int64) : Prop := ∀ X49 : Int32 → Int32 → (Nat → Nat → Int32) → Int64 → Prop, (∀ v2 v3 J lw, wf_X3_where_49 p1 Φ X49 v2 v3 J lw → X49 v2 v3 J lw) → X49 v2 v3 J lw
theorem wk_X3_where_49 {g : Gm} {d : TD} {t : Nat} (B : BdT g d prog_11_method_68_code 5 (some .int) 5 116) (p1 : Int32) (Φ : Int32 → (Nat → Nat → Int32) → Int64 → Prop) (X49 : Int32 → Int32 → (Nat → Nat → Int32) → Int64 → Prop) (hX49 : ∀ v2 v3 J lw, X49 v2 v3 J lw → GJ g 5 (TP d t J lw (gs g).heap) 0 (TQ g d t (ansI Φ)) 49 [(0, rv (t + 1)), (1, .int p1), (2, .int v2), (3, .int v3)] []) (v2 : Int32) (v3 : Int32) (J : Nat → Nat → Int32) (lw : Int64) (hw : wf_X3_where_49 p1 Φ X49 v2 v3 J lw) : GJ g 5 (TP d t J lw (gs g).heap) 0 (TQ g d t (ansI Φ)) 49 [(0, rv (t + 1)), (1, .int p1), (2, .int v2), (3, .int v3)] [] := by
  unfold wf_X3_where_49 at hw
  have C := B.1
  have hW := B.2.1
  refine gj_iload_n C dX3_where_49 3 rfl ?_
  refine gj_aload_n C dX3_where_50 0 rfl ?_
  refine tg331 C hW dX3_where_51 ?_
  refine gj_icmp_ge (tgt := 98) C dX3_where_54 rfl (fun c19 => ?_) (fun c19 => ?_)
  · have hw := it_t hw c19
    refine gj_iload_n C dX3_where_98 2 rfl ?_
    exact gt_iret B hw dX3_where_99
  · have hw := it_f hw c19
    refine gj_aload_n C dX3_where_57 0 rfl ?_
    refine gj_iload_n C dX3_where_58 1 rfl ?_
    refine gj_aload_n C dX3_where_59 0 rfl ?_
    refine tg80 C hW dX3_where_60 ?_
    refine gj_bipush (v := 6) C dX3_where_63 rfl ?_
    refine gj_iload_n C dX3_where_65 3 rfl ?_
    refine gj_imul C dX3_where_66 ?_
    refine gj_iload_n C dX3_where_67 1 rfl ?_
    refine gj_iadd C dX3_where_68 ?_
    obtain ⟨h20, hw⟩ := hw
    refine gt_iald C hW (by decide) h20 dX3_where_69 ?_
    refine tc_X3_roomOf B hw (Nat.le_of_ble_eq_true rfl) (Nat.le_of_ble_eq_true rfl) (Nat.le_of_ble_eq_true rfl) dX3_where_70 (fun r23 J21 l22 hw => ?_)
    refine gj_istore (lc' := [(4, .int r23), (0, rv (t + 1)), (1, .int p1), (2, .int v2), (3, .int v3)]) C dX3_where_73 (Nat.le_of_ble_eq_true rfl) rfl ?_
    refine gj_iload_n C dX3_where_75 3 rfl ?_
    refine gj_iload C dX3_where_76 0 rfl ?_
    refine gj_iconst (v := (-1)) C dX3_where_78 rfl ?_
    have key : ∀ x24 : Int32, x24 = (if r23 = (-1) then 0 else ((1 : Int32) <<< (r23 &&& 31))) → GJ g 5 (TP d t J21 l22 (gs g).heap) 0 (TQ g d t (ansI Φ)) 90 [(4, .int r23), (0, rv (t + 1)), (1, .int p1), (2, .int v2), (3, .int v3)] [.int x24, .int v2] → GJ g 5 (TP d t J21 l22 (gs g).heap) 0 (TQ g d t (ansI Φ)) 79 [(4, .int r23), (0, rv (t + 1)), (1, .int p1), (2, .int v2), (3, .int v3)] [.int (-1), .int r23, .int v2] := by
      intro x24 ex24 kk
      refine gj_icmp_ne (tgt := 86) C dX3_where_79 rfl (fun c25 => ?_) (fun c25 => ?_)
      · refine gj_iconst (v := 1) C dX3_where_86 rfl ?_
        refine gj_iload C dX3_where_87 0 rfl ?_
        refine gj_ishl C dX3_where_89 ?_
        rw [if_neg c25] at ex24
        subst ex24
        exact kk
      · refine gj_iconst (v := 0) C dX3_where_82 rfl ?_
        refine gj_goto (tgt := 90) C dX3_where_83 rfl ?_
        rw [if_pos c25] at ex24
        subst ex24
        exact kk
    obtain ⟨x24, ex24⟩ : ∃ x24 : Int32, x24 = (if r23 = (-1) then 0 else ((1 : Int32) <<< (r23 &&& 31))) := ⟨_, rfl⟩
    refine key x24 ex24 ?_
    have hw := hw x24 ex24
    clear key
    refine gj_ior C dX3_where_90 ?_
    refine gj_topi (fun x26 ex26 => ?_)
    have hw := hw x26 ex26
    refine gj_istore_n (lc' := [(2, .int x26), (4, .int r23), (0, rv (t + 1)), (1, .int p1), (3, .int v3)]) C dX3_where_91 (Nat.le_of_ble_eq_true rfl) rfl ?_
    obtain ⟨x27, ex27⟩ : ∃ x27 : Int32, x27 = v3 + 1 := ⟨_, rfl⟩
    have hw := hw x27 ex27
    refine gj_iinc (lc' := [(3, .int x27), (2, .int x26), (4, .int r23), (0, rv (t + 1)), (1, .int p1)]) (w := 1) (v := x27) C dX3_where_92 4 rfl rfl ex27.symm (Nat.le_of_ble_eq_true rfl) rfl ?_
    refine gj_goto (tgt := 49) C dX3_where_95 rfl ?_
    refine gj_sub (lc' := [(0, rv (t + 1)), (1, .int p1), (2, .int x26), (3, .int x27)]) [3, 4, 1, 0] rfl ?_
    exact hX49 _ _ _ _ hw

theorem wq_X3_where_49 {g : Gm} {d : TD} {t : Nat} (B : BdT g d prog_11_method_68_code 5 (some .int) 5 116) (p1 : Int32) (Φ : Int32 → (Nat → Nat → Int32) → Int64 → Prop) (v2 : Int32) (v3 : Int32) (J : Nat → Nat → Int32) (lw : Int64) (hw : wl_X3_where_49 p1 Φ v2 v3 J lw) : GJ g 5 (TP d t J lw (gs g).heap) 0 (TQ g d t (ansI Φ)) 49 [(0, rv (t + 1)), (1, .int p1), (2, .int v2), (3, .int v3)] [] :=
  hw (fun v2 v3 J lw => GJ g 5 (TP d t J lw (gs g).heap) 0 (TQ g d t (ansI Φ)) 49 [(0, rv (t + 1)), (1, .int p1), (2, .int v2), (3, .int v3)] []) (fun v2 v3 J lw h => wk_X3_where_49 B p1 Φ (fun v2 v3 J lw => GJ g 5 (TP d t J lw (gs g).heap) 0 (TQ g d t (ansI Φ)) 49 [(0, rv (t + 1)), (1, .int p1), (2, .int v2), (3, .int v3)] []) (fun v2 v3 J lw h => h) v2 v3 J lw h)
def wp_X3_where (p1 : Int32) (Φ : Int32 → (Nat → Nat → Int32) → Int64 → Prop) (J : Nat → Nat → Int32) (lw : Int64) : Prop :=
(∀ J1 : Nat → Nat → Int32, J1 = u2 J 0 0 0 → (wp_X3_isLodger p1 (fun r4 J2 l3 => (if r4 = 0 then Φ 0 J2 l3 else (wp_X3_hour (fun r8 J6 l7 => (wp_X3_isSpent r8 (fun r11 J9 l10 => (if r11 = 0 then (wp_X3_hour (fun r15 J13 l14 => (wp_X3_seeks r15 (J13 0 41) 42 (fun J16 l17 => wl_X3_where_49 p1 Φ 0 0 J16 l17) J13 l14)) J9 l10) else Φ (-2) J9 l10)) J6 l7)) J2 l3))) J1 lw))
theorem wk_X3_where {g : Gm} {d : TD} {t : Nat} (B : BdT g d prog_11_method_68_code 5 (some .int) 5 116) (p1 : Int32) (Φ : Int32 → (Nat → Nat → Int32) → Int64 → Prop) (J : Nat → Nat → Int32) (lw : Int64) (hw : wp_X3_where p1 Φ J lw) : GJ g 5 (TP d t J lw (gs g).heap) 0 (TQ g d t (ansI Φ)) 0 [(0, rv (t + 1)), (1, .int p1)] [] := by
  unfold wp_X3_where at hw
  have C := B.1
  have hW := B.2.1
  refine gj_aload_n C dX3_where_0 0 rfl ?_
  refine gj_iconst (v := 0) C dX3_where_1 rfl ?_
  refine tp134 C hW dX3_where_2 ?_
  refine gt_nmJ (fun J1 eJ1 => ?_)
  have hw := hw J1 eJ1
  refine gj_aload_n C dX3_where_5 0 rfl ?_
  refine gj_iload_n C dX3_where_6 1 rfl ?_
  refine tc_X3_isLodger B hw (Nat.le_of_ble_eq_true rfl) (Nat.le_of_ble_eq_true rfl) (Nat.le_of_ble_eq_true rfl) dX3_where_7 (fun r4 J2 l3 br4 hw => ?_)
  refine gj_if_ne (tgt := 15) C dX3_where_10 rfl (fun c5 => ?_) (fun c5 => ?_)
  · have hw := it_f hw c5
    refine gj_aload_n C dX3_where_15 0 rfl ?_
    refine gj_aload_n C dX3_where_16 0 rfl ?_
    refine tc_X3_hour B hw (Nat.le_of_ble_eq_true rfl) (Nat.le_of_ble_eq_true rfl) (Nat.le_of_ble_eq_true rfl) dX3_where_17 (fun r8 J6 l7 hw => ?_)
    refine tc_X3_isSpent B hw (Nat.le_of_ble_eq_true rfl) (Nat.le_of_ble_eq_true rfl) (Nat.le_of_ble_eq_true rfl) dX3_where_20 (fun r11 J9 l10 br11 hw => ?_)
    refine gj_if_eq (tgt := 29) C dX3_where_23 rfl (fun c12 => ?_) (fun c12 => ?_)
    · have hw := it_t hw c12
      refine gj_aload_n C dX3_where_29 0 rfl ?_
      refine gj_aload_n C dX3_where_30 0 rfl ?_
      refine tc_X3_hour B hw (Nat.le_of_ble_eq_true rfl) (Nat.le_of_ble_eq_true rfl) (Nat.le_of_ble_eq_true rfl) dX3_where_31 (fun r15 J13 l14 hw => ?_)
      refine gj_aload_n C dX3_where_34 0 rfl ?_
      refine tg267 C hW dX3_where_35 ?_
      refine gj_aload_n C dX3_where_38 0 rfl ?_
      refine tg74 C hW dX3_where_39 ?_
      refine tc_X3_seeks B hw (Nat.le_of_ble_eq_true rfl) (Nat.le_of_ble_eq_true rfl) (Nat.le_of_ble_eq_true rfl) dX3_where_42 (fun J16 l17 hw => ?_)
      refine gj_iconst (v := 0) C dX3_where_45 rfl ?_
      refine gj_istore_n (lc' := [(2, .int 0), (0, rv (t + 1)), (1, .int p1)]) C dX3_where_46 (Nat.le_of_ble_eq_true rfl) rfl ?_
      refine gj_iconst (v := 0) C dX3_where_47 rfl ?_
      refine gj_istore_n (lc' := [(3, .int 0), (2, .int 0), (0, rv (t + 1)), (1, .int p1)]) C dX3_where_48 (Nat.le_of_ble_eq_true rfl) rfl ?_
      refine gj_sub (lc' := [(0, rv (t + 1)), (1, .int p1), (2, .int 0), (3, .int 0)]) [2, 3, 1, 0] rfl ?_
      exact wq_X3_where_49 B _ _ _ _ _ _ hw
    · have hw := it_f hw c12
      refine gj_bipush (v := (-2)) C dX3_where_26 rfl ?_
      exact gt_iret B hw dX3_where_28
  · have hw := it_t hw c5
    refine gj_iconst (v := 0) C dX3_where_13 rfl ?_
    exact gt_iret B hw dX3_where_14

theorem met_X3_where (l : Launch) {d : TD} {t : Nat} {J : Nat → Nat → Int32} {lw : Int64} {p1 : Int32} {Φ : Int32 → (Nat → Nat → Int32) → Int64 → Prop} (hw : wp_X3_where p1 Φ J lw) : MetT l yX3_where prog_11_method_68_code 5 (some .int) 5 116 [.ref t, .int p1] d t J lw (ansI Φ) :=
  mt_of (by decide +kernel) rfl (Nat.le_of_ble_eq_true rfl) (fun g _ B => wk_X3_where B _ _ J lw hw)
/-! another(II)I -/
def wf_X3_another_4 (p1 : Int32) (p2 : Int32) (Φ : Int32 → (Nat → Nat → Int32) → Int64 → Prop) (X4 : Int32 → (Nat → Nat → Int32) → Int64 → Prop) (v3 : Int32) (J : Nat → Nat → Int32) (lw : Int64) : Prop :=
(if 4 ≤ v3 then Φ (-1) J lw else (wp_X3_both p1 (fun r5 J3 l4 => (if (v3 &&& (r5 ^^^ (-1))) = 0 then (vp_in p1 (tln 7) ∧ (vp_in (J3 7 (Int32.toNatClampNeg p1)) (tln 47) ∧ (if v3 = (J3 47 (Int32.toNatClampNeg (J3 7 (Int32.toNatClampNeg p1)))) then (∀ x11 : Int32, x11 = v3 + 1 → X4 x11 J3 l4) else Φ v3 J3 l4))) else (∀ x7 : Int32, x7 = v3 + 1 → X4 x7 J3 l4))) J lw))
def wl_X3_another_4 (p1 : Int32) (p2 : Int32) (Φ : Int32 → (Nat → Nat → Int32) → Int64 → Prop) (v3 : Int32) (J : Nat → Nat → Int32) (lw : Int64) : Prop := ∀ X4 : Int32 → (Nat → Nat → Int32) → Int64 → Prop, (∀ v3 J lw, wf_X3_another_4 p1 p2 Φ X4 v3 J lw → X4 v3 J lw) → X4 v3 J lw
theorem wk_X3_another_4 {g : Gm} {d : TD} {t : Nat} (B : BdT g d prog_11_method_70_code 4 (some .int) 2 45) (p1 : Int32) (p2 : Int32) (Φ : Int32 → (Nat → Nat → Int32) → Int64 → Prop) (X4 : Int32 → (Nat → Nat → Int32) → Int64 → Prop) (hX4 : ∀ v3 J lw, X4 v3 J lw → GJ g 4 (TP d t J lw (gs g).heap) 0 (TQ g d t (ansI Φ)) 4 [(0, rv (t + 1)), (1, .int p1), (3, .int v3)] []) (v3 : Int32) (J : Nat → Nat → Int32) (lw : Int64) (hw : wf_X3_another_4 p1 p2 Φ X4 v3 J lw) : GJ g 4 (TP d t J lw (gs g).heap) 0 (TQ g d t (ansI Φ)) 4 [(0, rv (t + 1)), (1, .int p1), (3, .int v3)] [] := by
  unfold wf_X3_another_4 at hw
  have C := B.1
  have hW := B.2.1
  refine gj_iload_n C dX3_another_4 2 rfl ?_
  refine gj_iconst (v := 4) C dX3_another_5 rfl ?_
  refine gj_icmp_ge (tgt := 44) C dX3_another_6 rfl (fun c2 => ?_) (fun c2 => ?_)
  · have hw := it_t hw c2
    refine gj_iconst (v := (-1)) C dX3_another_44 rfl ?_
    exact gt_iret B hw dX3_another_45
  · have hw := it_f hw c2
    refine gj_iload_n C dX3_another_9 2 rfl ?_
    refine gj_aload_n C dX3_another_10 0 rfl ?_
    refine gj_iload_n C dX3_another_11 1 rfl ?_
    refine tc_X3_both B hw (Nat.le_of_ble_eq_true rfl) (Nat.le_of_ble_eq_true rfl) (Nat.le_of_ble_eq_true rfl) dX3_another_12 (fun r5 J3 l4 hw => ?_)
    refine gj_iconst (v := (-1)) C dX3_another_15 rfl ?_
    refine gj_ixor C dX3_another_16 ?_
    refine gj_iand C dX3_another_17 ?_
    refine gj_if_ne (tgt := 38) C dX3_another_18 rfl (fun c6 => ?_) (fun c6 => ?_)
    · have hw := it_f hw c6
      obtain ⟨x7, ex7⟩ : ∃ x7 : Int32, x7 = v3 + 1 := ⟨_, rfl⟩
      have hw := hw x7 ex7
      refine gj_iinc (lc' := [(3, .int x7), (0, rv (t + 1)), (1, .int p1)]) (w := 1) (v := x7) C dX3_another_38 2 rfl rfl ex7.symm (Nat.le_of_ble_eq_true rfl) rfl ?_
      refine gj_goto (tgt := 4) C dX3_another_41 rfl ?_
      refine gj_sub (lc' := [(0, rv (t + 1)), (1, .int p1), (3, .int x7)]) [1, 2, 0] rfl ?_
      exact hX4 _ _ _ hw
    · have hw := it_t hw c6
      refine gj_iload_n C dX3_another_21 2 rfl ?_
      refine gj_aload_n C dX3_another_22 0 rfl ?_
      refine tg86 C hW dX3_another_23 ?_
      refine gj_aload_n C dX3_another_26 0 rfl ?_
      refine tg16 C hW dX3_another_27 ?_
      refine gj_iload_n C dX3_another_30 1 rfl ?_
      obtain ⟨h8, hw⟩ := hw
      refine gt_iald C hW (by decide) h8 dX3_another_31 ?_
      obtain ⟨h9, hw⟩ := hw
      refine gt_iald C hW (by decide) h9 dX3_another_32 ?_
      refine gj_icmp_eq (tgt := 38) C dX3_another_33 rfl (fun c10 => ?_) (fun c10 => ?_)
      · have hw := it_t hw c10
        obtain ⟨x11, ex11⟩ : ∃ x11 : Int32, x11 = v3 + 1 := ⟨_, rfl⟩
        have hw := hw x11 ex11
        refine gj_iinc (lc' := [(3, .int x11), (0, rv (t + 1)), (1, .int p1)]) (w := 1) (v := x11) C dX3_another_38 2 rfl rfl ex11.symm (Nat.le_of_ble_eq_true rfl) rfl ?_
        refine gj_goto (tgt := 4) C dX3_another_41 rfl ?_
        refine gj_sub (lc' := [(0, rv (t + 1)), (1, .int p1), (3, .int x11)]) [1, 2, 0] rfl ?_
        exact hX4 _ _ _ hw
      · have hw := it_f hw c10
        refine gj_iload_n C dX3_another_36 2 rfl ?_
        exact gt_iret B hw dX3_another_37

theorem wq_X3_another_4 {g : Gm} {d : TD} {t : Nat} (B : BdT g d prog_11_method_70_code 4 (some .int) 2 45) (p1 : Int32) (p2 : Int32) (Φ : Int32 → (Nat → Nat → Int32) → Int64 → Prop) (v3 : Int32) (J : Nat → Nat → Int32) (lw : Int64) (hw : wl_X3_another_4 p1 p2 Φ v3 J lw) : GJ g 4 (TP d t J lw (gs g).heap) 0 (TQ g d t (ansI Φ)) 4 [(0, rv (t + 1)), (1, .int p1), (3, .int v3)] [] :=
  hw (fun v3 J lw => GJ g 4 (TP d t J lw (gs g).heap) 0 (TQ g d t (ansI Φ)) 4 [(0, rv (t + 1)), (1, .int p1), (3, .int v3)] []) (fun v3 J lw h => wk_X3_another_4 B p1 p2 Φ (fun v3 J lw => GJ g 4 (TP d t J lw (gs g).heap) 0 (TQ g d t (ansI Φ)) 4 [(0, rv (t + 1)), (1, .int p1), (3, .int v3)] []) (fun v3 J lw h => h) v3 J lw h)
def wp_X3_another (p1 : Int32) (p2 : Int32) (Φ : Int32 → (Nat → Nat → Int32) → Int64 → Prop) (J : Nat → Nat → Int32) (lw : Int64) : Prop :=
(∀ x1 : Int32, x1 = (p2 + 1) → wl_X3_another_4 p1 p2 Φ x1 J lw)
theorem wk_X3_another {g : Gm} {d : TD} {t : Nat} (B : BdT g d prog_11_method_70_code 4 (some .int) 2 45) (p1 : Int32) (p2 : Int32) (Φ : Int32 → (Nat → Nat → Int32) → Int64 → Prop) (J : Nat → Nat → Int32) (lw : Int64) (hw : wp_X3_another p1 p2 Φ J lw) : GJ g 4 (TP d t J lw (gs g).heap) 0 (TQ g d t (ansI Φ)) 0 [(0, rv (t + 1)), (1, .int p1), (2, .int p2)] [] := by
  unfold wp_X3_another at hw
  have C := B.1
  have hW := B.2.1
  refine gj_iload_n C dX3_another_0 2 rfl ?_
  refine gj_iconst (v := 1) C dX3_another_1 rfl ?_
  refine gj_iadd C dX3_another_2 ?_
  refine gj_topi (fun x1 ex1 => ?_)
  have hw := hw x1 ex1
  refine gj_istore_n (lc' := [(3, .int x1), (0, rv (t + 1)), (1, .int p1), (2, .int p2)]) C dX3_another_3 (Nat.le_of_ble_eq_true rfl) rfl ?_
  refine gj_sub (lc' := [(0, rv (t + 1)), (1, .int p1), (3, .int x1)]) [1, 2, 0] rfl ?_
  exact wq_X3_another_4 B _ _ _ _ _ _ hw

theorem met_X3_another (l : Launch) {d : TD} {t : Nat} {J : Nat → Nat → Int32} {lw : Int64} {p1 : Int32} {p2 : Int32} {Φ : Int32 → (Nat → Nat → Int32) → Int64 → Prop} (hw : wp_X3_another p1 p2 Φ J lw) : MetT l yX3_another prog_11_method_70_code 4 (some .int) 2 45 [.ref t, .int p1, .int p2] d t J lw (ansI Φ) :=
  mt_of (by decide +kernel) rfl (Nat.le_of_ble_eq_true rfl) (fun g _ B => wk_X3_another B _ _ _ J lw hw)
theorem tc_X3_another {g : Gm} {d : TD} {t : Nat} {cc : ByteArray} {nL : Nat} {ret : Option FieldType} {fr lo : Nat} (B : BdT g d cc nL ret fr lo) {J : Nat → Nat → Int32} {lw : Int64} {H0 : Heap} {Q : State → Prop} {pc : Nat} {lc : List (Nat × Value)} {rest : List Value} {p1 : Int32} {p2 : Int32} {Φ : Int32 → (Nat → Nat → Int32) → Int64 → Prop} (hw : wp_X3_another p1 p2 Φ J lw) (hf : 3 ≤ fr) (hlo : 68 ≤ lo) (hrest : (rest.map fun v => v.category).sum ≤ 8) (dg : decode cc pc = .ok (.invokevirtual 362, 3)) (k : ∀ (r : Int32) J' lw', Φ r J' lw' → GJ g nL (TP d t J' lw' H0) 0 Q (pc + 3) lc (.int r :: rest)) : GJ g nL (TP d t J lw H0) 0 Q pc lc (.int p2 :: .int p1 :: rv (t + 1) :: rest) :=
  gt_callV (n := 2) (As := [.int p1, .int p2]) B (met_X3_another g.2.1 hw) (lw_V q1671 q1673 qs77 q97 q1674) ⟨rfl, by decide +kernel, by decide +kernel, by decide +kernel⟩ rfl hf hlo ⟨Nat.zero_le _, Nat.zero_le _⟩ rfl hrest dg (fun v J' lw' hp => by obtain ⟨r, rfl, hp⟩ := hp; exact k r J' lw' hp)
/-! turnsDoors(I)Z -/
def wf_X3_turnsDoors_7 (p1 : Int32) (Φ : Int32 → (Nat → Nat → Int32) → Int64 → Prop) (X7 : Int32 → (Nat → Nat → Int32) → Int64 → Prop) (v2 : Int32) (J : Nat → Nat → Int32) (lw : Int64) : Prop :=
(if v2 < 0 then Φ 0 J lw else (if ((p1 >>> (v2 &&& 31)) &&& 1) = 0 then (∀ x20 : Int32, x20 = v2 + (-1) → X7 x20 J lw) else (vp_in v2 (tln 7) ∧ (vp_in (J 7 (Int32.toNatClampNeg v2)) (tln 46) ∧ (wp_X3_another v2 (J 46 (Int32.toNatClampNeg (J 7 (Int32.toNatClampNeg v2)))) (fun r8 J6 l7 => (if r8 = (-1) then (vp_in v2 (tln 7) ∧ (wp_X3_another v2 (-1) (fun r13 J11 l12 => (vp_in (J6 7 (Int32.toNatClampNeg v2)) (tln 46) ∧ (∀ J15 : Nat → Nat → Int32, J15 = u2 J11 46 (Int32.toNatClampNeg (J6 7 (Int32.toNatClampNeg v2))) r13 → (∀ x16 : Int32, x16 = v2 + (-1) → X7 x16 J15 l12)))) J6 l7)) else (vp_in v2 (tln 7) ∧ (vp_in (J6 7 (Int32.toNatClampNeg v2)) (tln 46) ∧ (∀ J19 : Nat → Nat → Int32, J19 = u2 J6 46 (Int32.toNatClampNeg (J6 7 (Int32.toNatClampNeg v2))) r8 → Φ 1 J19 l7))))) J lw)))))
def wl_X3_turnsDoors_7 (p1 : Int32) (Φ : Int32 → (Nat → Nat → Int32) → Int64 → Prop) (v2 : Int32) (J : Nat → Nat → Int32) (lw : Int64) : Prop := ∀ X7 : Int32 → (Nat → Nat → Int32) → Int64 → Prop, (∀ v2 J lw, wf_X3_turnsDoors_7 p1 Φ X7 v2 J lw → X7 v2 J lw) → X7 v2 J lw
theorem wk_X3_turnsDoors_7 {g : Gm} {d : TD} {t : Nat} (B : BdT g d prog_11_method_69_code 4 (some .boolean) 3 68) (p1 : Int32) (Φ : Int32 → (Nat → Nat → Int32) → Int64 → Prop) (X7 : Int32 → (Nat → Nat → Int32) → Int64 → Prop) (hX7 : ∀ v2 J lw, X7 v2 J lw → GJ g 4 (TP d t J lw (gs g).heap) 0 (TQ g d t (ansZ Φ)) 7 [(0, rv (t + 1)), (1, .int p1), (2, .int v2)] []) (v2 : Int32) (J : Nat → Nat → Int32) (lw : Int64) (hw : wf_X3_turnsDoors_7 p1 Φ X7 v2 J lw) : GJ g 4 (TP d t J lw (gs g).heap) 0 (TQ g d t (ansZ Φ)) 7 [(0, rv (t + 1)), (1, .int p1), (2, .int v2)] [] := by
  unfold wf_X3_turnsDoors_7 at hw
  have C := B.1
  have hW := B.2.1
  refine gj_iload_n C dX3_turnsDoors_7 2 rfl ?_
  refine gj_if_lt (tgt := 81) C dX3_turnsDoors_8 rfl (fun c2 => ?_) (fun c2 => ?_)
  · have hw := it_t hw c2
    refine gj_iconst (v := 0) C dX3_turnsDoors_81 rfl ?_
    exact gt_zret B (Or.inl rfl) hw dX3_turnsDoors_82
  · have hw := it_f hw c2
    refine gj_iload_n C dX3_turnsDoors_11 1 rfl ?_
    refine gj_iload_n C dX3_turnsDoors_12 2 rfl ?_
    refine gj_ishr C dX3_turnsDoors_13 ?_
    refine gj_iconst (v := 1) C dX3_turnsDoors_14 rfl ?_
    refine gj_iand C dX3_turnsDoors_15 ?_
    refine gj_if_ne (tgt := 22) C dX3_turnsDoors_16 rfl (fun c3 => ?_) (fun c3 => ?_)
    · have hw := it_f hw c3
      refine gj_aload_n C dX3_turnsDoors_22 0 rfl ?_
      refine gj_iload_n C dX3_turnsDoors_23 2 rfl ?_
      refine gj_aload_n C dX3_turnsDoors_24 0 rfl ?_
      refine tg83 C hW dX3_turnsDoors_25 ?_
      refine gj_aload_n C dX3_turnsDoors_28 0 rfl ?_
      refine tg16 C hW dX3_turnsDoors_29 ?_
      refine gj_iload_n C dX3_turnsDoors_32 2 rfl ?_
      obtain ⟨h4, hw⟩ := hw
      refine gt_iald C hW (by decide) h4 dX3_turnsDoors_33 ?_
      obtain ⟨h5, hw⟩ := hw
      refine gt_iald C hW (by decide) h5 dX3_turnsDoors_34 ?_
      refine tc_X3_another B hw (Nat.le_of_ble_eq_true rfl) (Nat.le_of_ble_eq_true rfl) (Nat.le_of_ble_eq_true rfl) dX3_turnsDoors_35 (fun r8 J6 l7 hw => ?_)
      refine gj_istore_n (lc' := [(3, .int r8), (0, rv (t + 1)), (1, .int p1), (2, .int v2)]) C dX3_turnsDoors_38 (Nat.le_of_ble_eq_true rfl) rfl ?_
      refine gj_iload_n C dX3_turnsDoors_39 0 rfl ?_
      refine gj_iconst (v := (-1)) C dX3_turnsDoors_40 rfl ?_
      refine gj_icmp_eq (tgt := 58) C dX3_turnsDoors_41 rfl (fun c9 => ?_) (fun c9 => ?_)
      · have hw := it_t hw c9
        refine gj_aload_n C dX3_turnsDoors_58 1 rfl ?_
        refine tg83 C hW dX3_turnsDoors_59 ?_
        refine gj_aload_n C dX3_turnsDoors_62 1 rfl ?_
        refine tg16 C hW dX3_turnsDoors_63 ?_
        refine gj_iload_n C dX3_turnsDoors_66 3 rfl ?_
        obtain ⟨h10, hw⟩ := hw
        refine gt_iald C hW (by decide) h10 dX3_turnsDoors_67 ?_
        refine gj_aload_n C dX3_turnsDoors_68 1 rfl ?_
        refine gj_iload_n C dX3_turnsDoors_69 3 rfl ?_
        refine gj_iconst (v := (-1)) C dX3_turnsDoors_70 rfl ?_
        refine tc_X3_another B hw (Nat.le_of_ble_eq_true rfl) (Nat.le_of_ble_eq_true rfl) (Nat.le_of_ble_eq_true rfl) dX3_turnsDoors_71 (fun r13 J11 l12 hw => ?_)
        obtain ⟨h14, hw⟩ := hw
        refine gt_iast C hW (by decide) h14 dX3_turnsDoors_74 ?_
        refine gt_nmJ (fun J15 eJ15 => ?_)
        have hw := hw J15 eJ15
        obtain ⟨x16, ex16⟩ : ∃ x16 : Int32, x16 = v2 + (-1) := ⟨_, rfl⟩
        have hw := hw x16 ex16
        refine gj_iinc (lc' := [(2, .int x16), (3, .int r8), (0, rv (t + 1)), (1, .int p1)]) (w := (-1)) (v := x16) C dX3_turnsDoors_75 3 rfl rfl ex16.symm (Nat.le_of_ble_eq_true rfl) rfl ?_
        refine gj_goto (tgt := 7) C dX3_turnsDoors_78 rfl ?_
        refine gj_sub (lc' := [(0, rv (t + 1)), (1, .int p1), (2, .int x16)]) [2, 3, 0] rfl ?_
        exact hX7 _ _ _ hw
      · have hw := it_f hw c9
        refine gj_aload_n C dX3_turnsDoors_44 1 rfl ?_
        refine tg83 C hW dX3_turnsDoors_45 ?_
        refine gj_aload_n C dX3_turnsDoors_48 1 rfl ?_
        refine tg16 C hW dX3_turnsDoors_49 ?_
        refine gj_iload_n C dX3_turnsDoors_52 3 rfl ?_
        obtain ⟨h17, hw⟩ := hw
        refine gt_iald C hW (by decide) h17 dX3_turnsDoors_53 ?_
        refine gj_iload_n C dX3_turnsDoors_54 0 rfl ?_
        obtain ⟨h18, hw⟩ := hw
        refine gt_iast C hW (by decide) h18 dX3_turnsDoors_55 ?_
        refine gt_nmJ (fun J19 eJ19 => ?_)
        have hw := hw J19 eJ19
        refine gj_iconst (v := 1) C dX3_turnsDoors_56 rfl ?_
        exact gt_zret B (Or.inr rfl) hw dX3_turnsDoors_57
    · have hw := it_t hw c3
      refine gj_goto (tgt := 75) C dX3_turnsDoors_19 rfl ?_
      obtain ⟨x20, ex20⟩ : ∃ x20 : Int32, x20 = v2 + (-1) := ⟨_, rfl⟩
      have hw := hw x20 ex20
      refine gj_iinc (lc' := [(2, .int x20), (0, rv (t + 1)), (1, .int p1)]) (w := (-1)) (v := x20) C dX3_turnsDoors_75 2 rfl rfl ex20.symm (Nat.le_of_ble_eq_true rfl) rfl ?_
      refine gj_goto (tgt := 7) C dX3_turnsDoors_78 rfl ?_
      refine gj_sub (lc' := [(0, rv (t + 1)), (1, .int p1), (2, .int x20)]) [1, 2, 0] rfl ?_
      exact hX7 _ _ _ hw

theorem wq_X3_turnsDoors_7 {g : Gm} {d : TD} {t : Nat} (B : BdT g d prog_11_method_69_code 4 (some .boolean) 3 68) (p1 : Int32) (Φ : Int32 → (Nat → Nat → Int32) → Int64 → Prop) (v2 : Int32) (J : Nat → Nat → Int32) (lw : Int64) (hw : wl_X3_turnsDoors_7 p1 Φ v2 J lw) : GJ g 4 (TP d t J lw (gs g).heap) 0 (TQ g d t (ansZ Φ)) 7 [(0, rv (t + 1)), (1, .int p1), (2, .int v2)] [] :=
  hw (fun v2 J lw => GJ g 4 (TP d t J lw (gs g).heap) 0 (TQ g d t (ansZ Φ)) 7 [(0, rv (t + 1)), (1, .int p1), (2, .int v2)] []) (fun v2 J lw h => wk_X3_turnsDoors_7 B p1 Φ (fun v2 J lw => GJ g 4 (TP d t J lw (gs g).heap) 0 (TQ g d t (ansZ Φ)) 7 [(0, rv (t + 1)), (1, .int p1), (2, .int v2)] []) (fun v2 J lw h => h) v2 J lw h)
def wp_X3_turnsDoors (p1 : Int32) (Φ : Int32 → (Nat → Nat → Int32) → Int64 → Prop) (J : Nat → Nat → Int32) (lw : Int64) : Prop :=
(∀ x1 : Int32, x1 = ((J 0 2) - 1) → wl_X3_turnsDoors_7 p1 Φ x1 J lw)
theorem wk_X3_turnsDoors {g : Gm} {d : TD} {t : Nat} (B : BdT g d prog_11_method_69_code 4 (some .boolean) 3 68) (p1 : Int32) (Φ : Int32 → (Nat → Nat → Int32) → Int64 → Prop) (J : Nat → Nat → Int32) (lw : Int64) (hw : wp_X3_turnsDoors p1 Φ J lw) : GJ g 4 (TP d t J lw (gs g).heap) 0 (TQ g d t (ansZ Φ)) 0 [(0, rv (t + 1)), (1, .int p1)] [] := by
  unfold wp_X3_turnsDoors at hw
  have C := B.1
  have hW := B.2.1
  refine gj_aload_n C dX3_turnsDoors_0 0 rfl ?_
  refine tg251 C hW dX3_turnsDoors_1 ?_
  refine gj_iconst (v := 1) C dX3_turnsDoors_4 rfl ?_
  refine gj_isub C dX3_turnsDoors_5 ?_
  refine gj_topi (fun x1 ex1 => ?_)
  have hw := hw x1 ex1
  refine gj_istore_n (lc' := [(2, .int x1), (0, rv (t + 1)), (1, .int p1)]) C dX3_turnsDoors_6 (Nat.le_of_ble_eq_true rfl) rfl ?_
  refine gj_sub (lc' := [(0, rv (t + 1)), (1, .int p1), (2, .int x1)]) [1, 2, 0] rfl ?_
  exact wq_X3_turnsDoors_7 B _ _ _ _ _ hw

theorem met_X3_turnsDoors (l : Launch) {d : TD} {t : Nat} {J : Nat → Nat → Int32} {lw : Int64} {p1 : Int32} {Φ : Int32 → (Nat → Nat → Int32) → Int64 → Prop} (hw : wp_X3_turnsDoors p1 Φ J lw) : MetT l yX3_turnsDoors prog_11_method_69_code 4 (some .boolean) 3 68 [.ref t, .int p1] d t J lw (ansZ Φ) :=
  mt_of (by decide +kernel) rfl (Nat.le_of_ble_eq_true rfl) (fun g _ B => wk_X3_turnsDoors B _ _ J lw hw)
theorem tc_X3_turnsDoors {g : Gm} {d : TD} {t : Nat} {cc : ByteArray} {nL : Nat} {ret : Option FieldType} {fr lo : Nat} (B : BdT g d cc nL ret fr lo) {J : Nat → Nat → Int32} {lw : Int64} {H0 : Heap} {Q : State → Prop} {pc : Nat} {lc : List (Nat × Value)} {rest : List Value} {p1 : Int32} {Φ : Int32 → (Nat → Nat → Int32) → Int64 → Prop} (hw : wp_X3_turnsDoors p1 Φ J lw) (hf : 4 ≤ fr) (hlo : 91 ≤ lo) (hrest : (rest.map fun v => v.category).sum ≤ 8) (dg : decode cc pc = .ok (.invokevirtual 365, 3)) (k : ∀ (r : Int32) J' lw', (r = 0 ∨ r = 1) → Φ r J' lw' → GJ g nL (TP d t J' lw' H0) 0 Q (pc + 3) lc (.int r :: rest)) : GJ g nL (TP d t J lw H0) 0 Q pc lc (.int p1 :: rv (t + 1) :: rest) :=
  gt_callV (n := 1) (As := [.int p1]) B (met_X3_turnsDoors g.2.1 hw) (lw_V q1675 q1677 qs78 q97 q1678) ⟨rfl, by decide +kernel, by decide +kernel, by decide +kernel⟩ rfl hf hlo ⟨Nat.zero_le _, Nat.zero_le _⟩ rfl hrest dg (fun v J' lw' hp => by obtain ⟨r, rfl, hb, hp⟩ := hp; exact k r J' lw' hb hp)
/-! misleads(III)Z -/
def wj_X3_misleads_127 (p1 : Int32) (p2 : Int32) (p3 : Int32) (Φ : Int32 → (Nat → Nat → Int32) → Int64 → Prop) (X82 : Int32 → (Nat → Nat → Int32) → Int64 → Prop) (J : Nat → Nat → Int32) (lw : Int64) : Prop :=
(wp_X3_turnsDoors p3 (fun r15 J13 l14 => X82 r15 J13 l14) J lw)
theorem wq_X3_misleads_127 {g : Gm} {d : TD} {t : Nat} (B : BdT g d prog_11_method_71_code 6 (some .boolean) 5 116) (p1 : Int32) (p2 : Int32) (p3 : Int32) (Φ : Int32 → (Nat → Nat → Int32) → Int64 → Prop) (X82 : Int32 → (Nat → Nat → Int32) → Int64 → Prop) (hX82 : ∀ v4 J lw, X82 v4 J lw → GJ g 6 (TP d t J lw (gs g).heap) 0 (TQ g d t (ansZ Φ)) 82 [(0, rv (t + 1)), (1, .int p1), (2, .int p2), (3, .int p3), (4, .int v4)] []) (J : Nat → Nat → Int32) (lw : Int64) (hw : wj_X3_misleads_127 p1 p2 p3 Φ X82 J lw) : GJ g 6 (TP d t J lw (gs g).heap) 0 (TQ g d t (ansZ Φ)) 127 [(0, rv (t + 1)), (1, .int p1), (2, .int p2), (3, .int p3)] [] := by
  unfold wj_X3_misleads_127 at hw
  have C := B.1
  have hW := B.2.1
  refine gj_aload_n C dX3_misleads_127 0 rfl ?_
  refine gj_iload_n C dX3_misleads_128 3 rfl ?_
  refine tc_X3_turnsDoors B hw (Nat.le_of_ble_eq_true rfl) (Nat.le_of_ble_eq_true rfl) (Nat.le_of_ble_eq_true rfl) dX3_misleads_129 (fun r15 J13 l14 br15 hw => ?_)
  refine gj_istore (lc' := [(4, .int r15), (0, rv (t + 1)), (1, .int p1), (2, .int p2), (3, .int p3)]) C dX3_misleads_132 (Nat.le_of_ble_eq_true rfl) rfl ?_
  refine gj_goto (tgt := 82) C dX3_misleads_134 rfl ?_
  refine gj_sub (lc' := [(0, rv (t + 1)), (1, .int p1), (2, .int p2), (3, .int p3), (4, .int r15)]) [1, 2, 3, 4, 0] rfl ?_
  exact hX82 _ _ _ hw

def wf_X3_misleads_82 (p1 : Int32) (p2 : Int32) (p3 : Int32) (Φ : Int32 → (Nat → Nat → Int32) → Int64 → Prop) (X82 : Int32 → (Nat → Nat → Int32) → Int64 → Prop) (v4 : Int32) (J : Nat → Nat → Int32) (lw : Int64) : Prop :=
(if v4 = 0 then Φ 0 J lw else (wp_X3_seeks p2 (((1 : Int32) <<< ((J 0 1) &&& 31)) - 1) 46 (fun J6 l7 => (wp_X3_with p1 (fun r11 J9 l10 => (if r11 ≤ 0 then wj_X3_misleads_127 p1 p2 p3 Φ X82 J9 l10 else (if (J9 0 45) ≤ r11 then wj_X3_misleads_127 p1 p2 p3 Φ X82 J9 l10 else Φ 1 J9 l10))) J6 l7)) J lw))
def wl_X3_misleads_82 (p1 : Int32) (p2 : Int32) (p3 : Int32) (Φ : Int32 → (Nat → Nat → Int32) → Int64 → Prop) (v4 : Int32) (J : Nat → Nat → Int32) (lw : Int64) : Prop := ∀ X82 : Int32 → (Nat → Nat → Int32) → Int64 → Prop, (∀ v4 J lw, wf_X3_misleads_82 p1 p2 p3 Φ X82 v4 J lw → X82 v4 J lw) → X82 v4 J lw
theorem wk_X3_misleads_82 {g : Gm} {d : TD} {t : Nat} (B : BdT g d prog_11_method_71_code 6 (some .boolean) 5 116) (p1 : Int32) (p2 : Int32) (p3 : Int32) (Φ : Int32 → (Nat → Nat → Int32) → Int64 → Prop) (X82 : Int32 → (Nat → Nat → Int32) → Int64 → Prop) (hX82 : ∀ v4 J lw, X82 v4 J lw → GJ g 6 (TP d t J lw (gs g).heap) 0 (TQ g d t (ansZ Φ)) 82 [(0, rv (t + 1)), (1, .int p1), (2, .int p2), (3, .int p3), (4, .int v4)] []) (v4 : Int32) (J : Nat → Nat → Int32) (lw : Int64) (hw : wf_X3_misleads_82 p1 p2 p3 Φ X82 v4 J lw) : GJ g 6 (TP d t J lw (gs g).heap) 0 (TQ g d t (ansZ Φ)) 82 [(0, rv (t + 1)), (1, .int p1), (2, .int p2), (3, .int p3), (4, .int v4)] [] := by
  unfold wf_X3_misleads_82 at hw
  have C := B.1
  have hW := B.2.1
  refine gj_iload C dX3_misleads_82 4 rfl ?_
  refine gj_if_eq (tgt := 137) C dX3_misleads_84 rfl (fun c5 => ?_) (fun c5 => ?_)
  · have hw := it_t hw c5
    refine gj_iconst (v := 0) C dX3_misleads_137 rfl ?_
    exact gt_zret B (Or.inl rfl) hw dX3_misleads_138
  · have hw := it_f hw c5
    refine gj_aload_n C dX3_misleads_87 0 rfl ?_
    refine gj_iload_n C dX3_misleads_88 2 rfl ?_
    refine gj_iconst (v := 1) C dX3_misleads_89 rfl ?_
    refine gj_aload_n C dX3_misleads_90 0 rfl ?_
    refine tg248 C hW dX3_misleads_91 ?_
    refine gj_ishl C dX3_misleads_94 ?_
    refine gj_iconst (v := 1) C dX3_misleads_95 rfl ?_
    refine gj_isub C dX3_misleads_96 ?_
    refine gj_aload_n C dX3_misleads_97 0 rfl ?_
    refine tg83 C hW dX3_misleads_98 ?_
    refine tc_X3_seeks B hw (Nat.le_of_ble_eq_true rfl) (Nat.le_of_ble_eq_true rfl) (Nat.le_of_ble_eq_true rfl) dX3_misleads_101 (fun J6 l7 hw => ?_)
    refine gj_aload_n C dX3_misleads_104 0 rfl ?_
    refine gj_iload_n C dX3_misleads_105 1 rfl ?_
    refine tc_X3_with B hw (Nat.le_of_ble_eq_true rfl) (Nat.le_of_ble_eq_true rfl) (Nat.le_of_ble_eq_true rfl) dX3_misleads_106 (fun r11 J9 l10 hw => ?_)
    refine gj_istore (lc' := [(5, .int r11), (0, rv (t + 1)), (1, .int p1), (2, .int p2), (3, .int p3), (4, .int v4)]) C dX3_misleads_109 (Nat.le_of_ble_eq_true rfl) rfl ?_
    refine gj_iload C dX3_misleads_111 0 rfl ?_
    refine gj_if_le (tgt := 127) C dX3_misleads_113 rfl (fun c12 => ?_) (fun c12 => ?_)
    · have hw := it_t hw c12
      refine gj_sub (lc' := [(0, rv (t + 1)), (1, .int p1), (2, .int p2), (3, .int p3)]) [1, 2, 3, 4] rfl ?_
      exact wq_X3_misleads_127 B _ _ _ _ _ hX82 _ _ hw
    · have hw := it_f hw c12
      refine gj_iload C dX3_misleads_116 0 rfl ?_
      refine gj_aload_n C dX3_misleads_118 1 rfl ?_
      refine tg331 C hW dX3_misleads_119 ?_
      refine gj_icmp_ge (tgt := 127) C dX3_misleads_122 rfl (fun c16 => ?_) (fun c16 => ?_)
      · have hw := it_t hw c16
        refine gj_sub (lc' := [(0, rv (t + 1)), (1, .int p1), (2, .int p2), (3, .int p3)]) [1, 2, 3, 4] rfl ?_
        exact wq_X3_misleads_127 B _ _ _ _ _ hX82 _ _ hw
      · have hw := it_f hw c16
        refine gj_iconst (v := 1) C dX3_misleads_125 rfl ?_
        exact gt_zret B (Or.inr rfl) hw dX3_misleads_126

theorem wq_X3_misleads_82 {g : Gm} {d : TD} {t : Nat} (B : BdT g d prog_11_method_71_code 6 (some .boolean) 5 116) (p1 : Int32) (p2 : Int32) (p3 : Int32) (Φ : Int32 → (Nat → Nat → Int32) → Int64 → Prop) (v4 : Int32) (J : Nat → Nat → Int32) (lw : Int64) (hw : wl_X3_misleads_82 p1 p2 p3 Φ v4 J lw) : GJ g 6 (TP d t J lw (gs g).heap) 0 (TQ g d t (ansZ Φ)) 82 [(0, rv (t + 1)), (1, .int p1), (2, .int p2), (3, .int p3), (4, .int v4)] [] :=
  hw (fun v4 J lw => GJ g 6 (TP d t J lw (gs g).heap) 0 (TQ g d t (ansZ Φ)) 82 [(0, rv (t + 1)), (1, .int p1), (2, .int p2), (3, .int p3), (4, .int v4)] []) (fun v4 J lw h => wk_X3_misleads_82 B p1 p2 p3 Φ (fun v4 J lw => GJ g 6 (TP d t J lw (gs g).heap) 0 (TQ g d t (ansZ Φ)) 82 [(0, rv (t + 1)), (1, .int p1), (2, .int p2), (3, .int p3), (4, .int v4)] []) (fun v4 J lw h => h) v4 J lw h)
def wf_X3_misleads_15 (p1 : Int32) (p2 : Int32) (p3 : Int32) (Φ : Int32 → (Nat → Nat → Int32) → Int64 → Prop) (X15 : Int32 → (Nat → Nat → Int32) → Int64 → Prop) (v4 : Int32) (J : Nat → Nat → Int32) (lw : Int64) : Prop :=
(if (J 0 2) ≤ v4 then wl_X3_misleads_82 p1 p2 p3 Φ 1 J lw else (if ((p3 >>> (v4 &&& 31)) &&& 1) = 0 then (∀ x28 : Int32, x28 = v4 + 1 → X15 x28 J lw) else (vp_in v4 (tln 7) ∧ (wp_X3_another v4 (-1) (fun r21 J19 l20 => (vp_in (J 7 (Int32.toNatClampNeg v4)) (tln 46) ∧ (∀ J23 : Nat → Nat → Int32, J23 = u2 J19 46 (Int32.toNatClampNeg (J 7 (Int32.toNatClampNeg v4))) r21 → (vp_in v4 (tln 7) ∧ (vp_in (J23 7 (Int32.toNatClampNeg v4)) (tln 46) ∧ (if (J23 46 (Int32.toNatClampNeg (J23 7 (Int32.toNatClampNeg v4)))) = (-1) then Φ 0 J23 l20 else (∀ x27 : Int32, x27 = v4 + 1 → X15 x27 J23 l20))))))) J lw))))
def wl_X3_misleads_15 (p1 : Int32) (p2 : Int32) (p3 : Int32) (Φ : Int32 → (Nat → Nat → Int32) → Int64 → Prop) (v4 : Int32) (J : Nat → Nat → Int32) (lw : Int64) : Prop := ∀ X15 : Int32 → (Nat → Nat → Int32) → Int64 → Prop, (∀ v4 J lw, wf_X3_misleads_15 p1 p2 p3 Φ X15 v4 J lw → X15 v4 J lw) → X15 v4 J lw
theorem wk_X3_misleads_15 {g : Gm} {d : TD} {t : Nat} (B : BdT g d prog_11_method_71_code 6 (some .boolean) 5 116) (p1 : Int32) (p2 : Int32) (p3 : Int32) (Φ : Int32 → (Nat → Nat → Int32) → Int64 → Prop) (X15 : Int32 → (Nat → Nat → Int32) → Int64 → Prop) (hX15 : ∀ v4 J lw, X15 v4 J lw → GJ g 6 (TP d t J lw (gs g).heap) 0 (TQ g d t (ansZ Φ)) 15 [(0, rv (t + 1)), (1, .int p1), (2, .int p2), (3, .int p3), (4, .int v4)] []) (v4 : Int32) (J : Nat → Nat → Int32) (lw : Int64) (hw : wf_X3_misleads_15 p1 p2 p3 Φ X15 v4 J lw) : GJ g 6 (TP d t J lw (gs g).heap) 0 (TQ g d t (ansZ Φ)) 15 [(0, rv (t + 1)), (1, .int p1), (2, .int p2), (3, .int p3), (4, .int v4)] [] := by
  unfold wf_X3_misleads_15 at hw
  have C := B.1
  have hW := B.2.1
  refine gj_iload C dX3_misleads_15 4 rfl ?_
  refine gj_aload_n C dX3_misleads_17 0 rfl ?_
  refine tg251 C hW dX3_misleads_18 ?_
  refine gj_icmp_ge (tgt := 79) C dX3_misleads_21 rfl (fun c4 => ?_) (fun c4 => ?_)
  · have hw := it_t hw c4
    refine gj_iconst (v := 1) C dX3_misleads_79 rfl ?_
    refine gj_istore (lc' := [(4, .int 1), (0, rv (t + 1)), (1, .int p1), (2, .int p2), (3, .int p3)]) C dX3_misleads_80 (Nat.le_of_ble_eq_true rfl) rfl ?_
    refine gj_sub (lc' := [(0, rv (t + 1)), (1, .int p1), (2, .int p2), (3, .int p3), (4, .int 1)]) [1, 2, 3, 4, 0] rfl ?_
    exact wq_X3_misleads_82 B _ _ _ _ _ _ _ hw
  · have hw := it_f hw c4
    refine gj_iload_n C dX3_misleads_24 3 rfl ?_
    refine gj_iload C dX3_misleads_25 4 rfl ?_
    refine gj_ishr C dX3_misleads_27 ?_
    refine gj_iconst (v := 1) C dX3_misleads_28 rfl ?_
    refine gj_iand C dX3_misleads_29 ?_
    refine gj_if_ne (tgt := 36) C dX3_misleads_30 rfl (fun c17 => ?_) (fun c17 => ?_)
    · have hw := it_f hw c17
      refine gj_aload_n C dX3_misleads_36 0 rfl ?_
      refine tg83 C hW dX3_misleads_37 ?_
      refine gj_aload_n C dX3_misleads_40 0 rfl ?_
      refine tg16 C hW dX3_misleads_41 ?_
      refine gj_iload C dX3_misleads_44 4 rfl ?_
      obtain ⟨h18, hw⟩ := hw
      refine gt_iald C hW (by decide) h18 dX3_misleads_46 ?_
      refine gj_aload_n C dX3_misleads_47 0 rfl ?_
      refine gj_iload C dX3_misleads_48 4 rfl ?_
      refine gj_iconst (v := (-1)) C dX3_misleads_50 rfl ?_
      refine tc_X3_another B hw (Nat.le_of_ble_eq_true rfl) (Nat.le_of_ble_eq_true rfl) (Nat.le_of_ble_eq_true rfl) dX3_misleads_51 (fun r21 J19 l20 hw => ?_)
      obtain ⟨h22, hw⟩ := hw
      refine gt_iast C hW (by decide) h22 dX3_misleads_54 ?_
      refine gt_nmJ (fun J23 eJ23 => ?_)
      have hw := hw J23 eJ23
      refine gj_aload_n C dX3_misleads_55 0 rfl ?_
      refine tg83 C hW dX3_misleads_56 ?_
      refine gj_aload_n C dX3_misleads_59 0 rfl ?_
      refine tg16 C hW dX3_misleads_60 ?_
      refine gj_iload C dX3_misleads_63 4 rfl ?_
      obtain ⟨h24, hw⟩ := hw
      refine gt_iald C hW (by decide) h24 dX3_misleads_65 ?_
      obtain ⟨h25, hw⟩ := hw
      refine gt_iald C hW (by decide) h25 dX3_misleads_66 ?_
      refine gj_iconst (v := (-1)) C dX3_misleads_67 rfl ?_
      refine gj_icmp_ne (tgt := 73) C dX3_misleads_68 rfl (fun c26 => ?_) (fun c26 => ?_)
      · have hw := it_f hw c26
        obtain ⟨x27, ex27⟩ : ∃ x27 : Int32, x27 = v4 + 1 := ⟨_, rfl⟩
        have hw := hw x27 ex27
        refine gj_iinc (lc' := [(4, .int x27), (0, rv (t + 1)), (1, .int p1), (2, .int p2), (3, .int p3)]) (w := 1) (v := x27) C dX3_misleads_73 4 rfl rfl ex27.symm (Nat.le_of_ble_eq_true rfl) rfl ?_
        refine gj_goto (tgt := 15) C dX3_misleads_76 rfl ?_
        refine gj_sub (lc' := [(0, rv (t + 1)), (1, .int p1), (2, .int p2), (3, .int p3), (4, .int x27)]) [1, 2, 3, 4, 0] rfl ?_
        exact hX15 _ _ _ hw
      · have hw := it_t hw c26
        refine gj_iconst (v := 0) C dX3_misleads_71 rfl ?_
        exact gt_zret B (Or.inl rfl) hw dX3_misleads_72
    · have hw := it_t hw c17
      refine gj_goto (tgt := 73) C dX3_misleads_33 rfl ?_
      obtain ⟨x28, ex28⟩ : ∃ x28 : Int32, x28 = v4 + 1 := ⟨_, rfl⟩
      have hw := hw x28 ex28
      refine gj_iinc (lc' := [(4, .int x28), (0, rv (t + 1)), (1, .int p1), (2, .int p2), (3, .int p3)]) (w := 1) (v := x28) C dX3_misleads_73 4 rfl rfl ex28.symm (Nat.le_of_ble_eq_true rfl) rfl ?_
      refine gj_goto (tgt := 15) C dX3_misleads_76 rfl ?_
      refine gj_sub (lc' := [(0, rv (t + 1)), (1, .int p1), (2, .int p2), (3, .int p3), (4, .int x28)]) [1, 2, 3, 4, 0] rfl ?_
      exact hX15 _ _ _ hw

theorem wq_X3_misleads_15 {g : Gm} {d : TD} {t : Nat} (B : BdT g d prog_11_method_71_code 6 (some .boolean) 5 116) (p1 : Int32) (p2 : Int32) (p3 : Int32) (Φ : Int32 → (Nat → Nat → Int32) → Int64 → Prop) (v4 : Int32) (J : Nat → Nat → Int32) (lw : Int64) (hw : wl_X3_misleads_15 p1 p2 p3 Φ v4 J lw) : GJ g 6 (TP d t J lw (gs g).heap) 0 (TQ g d t (ansZ Φ)) 15 [(0, rv (t + 1)), (1, .int p1), (2, .int p2), (3, .int p3), (4, .int v4)] [] :=
  hw (fun v4 J lw => GJ g 6 (TP d t J lw (gs g).heap) 0 (TQ g d t (ansZ Φ)) 15 [(0, rv (t + 1)), (1, .int p1), (2, .int p2), (3, .int p3), (4, .int v4)] []) (fun v4 J lw h => wk_X3_misleads_15 B p1 p2 p3 Φ (fun v4 J lw => GJ g 6 (TP d t J lw (gs g).heap) 0 (TQ g d t (ansZ Φ)) 15 [(0, rv (t + 1)), (1, .int p1), (2, .int p2), (3, .int p3), (4, .int v4)] []) (fun v4 J lw h => h) v4 J lw h)
def wp_X3_misleads (p1 : Int32) (p2 : Int32) (p3 : Int32) (Φ : Int32 → (Nat → Nat → Int32) → Int64 → Prop) (J : Nat → Nat → Int32) (lw : Int64) : Prop :=
(wp_X3_copies 47 46 (fun J1 l2 => wl_X3_misleads_15 p1 p2 p3 Φ 0 J1 l2) J lw)
theorem wk_X3_misleads {g : Gm} {d : TD} {t : Nat} (B : BdT g d prog_11_method_71_code 6 (some .boolean) 5 116) (p1 : Int32) (p2 : Int32) (p3 : Int32) (Φ : Int32 → (Nat → Nat → Int32) → Int64 → Prop) (J : Nat → Nat → Int32) (lw : Int64) (hw : wp_X3_misleads p1 p2 p3 Φ J lw) : GJ g 6 (TP d t J lw (gs g).heap) 0 (TQ g d t (ansZ Φ)) 0 [(0, rv (t + 1)), (1, .int p1), (2, .int p2), (3, .int p3)] [] := by
  unfold wp_X3_misleads at hw
  have C := B.1
  have hW := B.2.1
  refine gj_aload_n C dX3_misleads_0 0 rfl ?_
  refine gj_aload_n C dX3_misleads_1 0 rfl ?_
  refine tg86 C hW dX3_misleads_2 ?_
  refine gj_aload_n C dX3_misleads_5 0 rfl ?_
  refine tg83 C hW dX3_misleads_6 ?_
  refine tc_X3_copies B hw (Nat.le_of_ble_eq_true rfl) (Nat.le_of_ble_eq_true rfl) (Nat.le_of_ble_eq_true rfl) dX3_misleads_9 (fun J1 l2 hw => ?_)
  refine gj_iconst (v := 0) C dX3_misleads_12 rfl ?_
  refine gj_istore (lc' := [(4, .int 0), (0, rv (t + 1)), (1, .int p1), (2, .int p2), (3, .int p3)]) C dX3_misleads_13 (Nat.le_of_ble_eq_true rfl) rfl ?_
  refine gj_sub (lc' := [(0, rv (t + 1)), (1, .int p1), (2, .int p2), (3, .int p3), (4, .int 0)]) [1, 2, 3, 4, 0] rfl ?_
  exact wq_X3_misleads_15 B _ _ _ _ _ _ _ hw

theorem met_X3_misleads (l : Launch) {d : TD} {t : Nat} {J : Nat → Nat → Int32} {lw : Int64} {p1 : Int32} {p2 : Int32} {p3 : Int32} {Φ : Int32 → (Nat → Nat → Int32) → Int64 → Prop} (hw : wp_X3_misleads p1 p2 p3 Φ J lw) : MetT l yX3_misleads prog_11_method_71_code 6 (some .boolean) 5 116 [.ref t, .int p1, .int p2, .int p3] d t J lw (ansZ Φ) :=
  mt_of (by decide +kernel) rfl (Nat.le_of_ble_eq_true rfl) (fun g _ B => wk_X3_misleads B _ _ _ _ J lw hw)
theorem tc_X3_misleads {g : Gm} {d : TD} {t : Nat} {cc : ByteArray} {nL : Nat} {ret : Option FieldType} {fr lo : Nat} (B : BdT g d cc nL ret fr lo) {J : Nat → Nat → Int32} {lw : Int64} {H0 : Heap} {Q : State → Prop} {pc : Nat} {lc : List (Nat × Value)} {rest : List Value} {p1 : Int32} {p2 : Int32} {p3 : Int32} {Φ : Int32 → (Nat → Nat → Int32) → Int64 → Prop} (hw : wp_X3_misleads p1 p2 p3 Φ J lw) (hf : 6 ≤ fr) (hlo : 141 ≤ lo) (hrest : (rest.map fun v => v.category).sum ≤ 8) (dg : decode cc pc = .ok (.invokevirtual 368, 3)) (k : ∀ (r : Int32) J' lw', (r = 0 ∨ r = 1) → Φ r J' lw' → GJ g nL (TP d t J' lw' H0) 0 Q (pc + 3) lc (.int r :: rest)) : GJ g nL (TP d t J lw H0) 0 Q pc lc (.int p3 :: .int p2 :: .int p1 :: rv (t + 1) :: rest) :=
  gt_callV (n := 3) (As := [.int p1, .int p2, .int p3]) B (met_X3_misleads g.2.1 hw) (lw_V q1667 q1669 qs76 q97 q1670) ⟨rfl, by decide +kernel, by decide +kernel, by decide +kernel⟩ rfl hf hlo ⟨Nat.zero_le _, Nat.zero_le _⟩ rfl hrest dg (fun v J' lw' hp => by obtain ⟨r, rfl, hb, hp⟩ := hp; exact k r J' lw' hb hp)
/-! misled(III)I -/
def wj_X3_misled_110 (p1 : Int32) (p2 : Int32) (p3 : Int32) (Φ : Int32 → (Nat → Nat → Int32) → Int64 → Prop) (X80 : Int32 → Int32 → (Nat → Nat → Int32) → Int64 → Prop) (v4 : Int32) (v5 : Int32) (J : Nat → Nat → Int32) (lw : Int64) : Prop :=
(wp_X3_misleads p1 p2 v5 (fun r28 J26 l27 => (if r28 = 0 then (∀ x30 : Int32, x30 = v5 + 1 → X80 v4 x30 J26 l27) else (∀ x31 : Int32, x31 = v5 + 1 → X80 v5 x31 J26 l27))) J lw)
theorem wq_X3_misled_110 {g : Gm} {d : TD} {t : Nat} (B : BdT g d prog_11_method_72_code 6 (some .int) 6 141) (p1 : Int32) (p2 : Int32) (p3 : Int32) (Φ : Int32 → (Nat → Nat → Int32) → Int64 → Prop) (X80 : Int32 → Int32 → (Nat → Nat → Int32) → Int64 → Prop) (hX80 : ∀ v4 v5 J lw, X80 v4 v5 J lw → GJ g 6 (TP d t J lw (gs g).heap) 0 (TQ g d t (ansI Φ)) 80 [(0, rv (t + 1)), (1, .int p1), (2, .int p2), (3, .int p3), (4, .int v4), (5, .int v5)] []) (v4 : Int32) (v5 : Int32) (J : Nat → Nat → Int32) (lw : Int64) (hw : wj_X3_misled_110 p1 p2 p3 Φ X80 v4 v5 J lw) : GJ g 6 (TP d t J lw (gs g).heap) 0 (TQ g d t (ansI Φ)) 110 [(0, rv (t + 1)), (1, .int p1), (2, .int p2), (3, .int p3), (4, .int v4), (5, .int v5)] [] := by
  unfold wj_X3_misled_110 at hw
  have C := B.1
  have hW := B.2.1
  refine gj_aload_n C dX3_misled_110 0 rfl ?_
  refine gj_iload_n C dX3_misled_111 1 rfl ?_
  refine gj_iload_n C dX3_misled_112 2 rfl ?_
  refine gj_iload C dX3_misled_113 5 rfl ?_
  refine tc_X3_misleads B hw (Nat.le_of_ble_eq_true rfl) (Nat.le_of_ble_eq_true rfl) (Nat.le_of_ble_eq_true rfl) dX3_misled_115 (fun r28 J26 l27 br28 hw => ?_)
  refine gj_if_eq (tgt := 125) C dX3_misled_118 rfl (fun c29 => ?_) (fun c29 => ?_)
  · have hw := it_t hw c29
    obtain ⟨x30, ex30⟩ : ∃ x30 : Int32, x30 = v5 + 1 := ⟨_, rfl⟩
    have hw := hw x30 ex30
    refine gj_iinc (lc' := [(5, .int x30), (0, rv (t + 1)), (1, .int p1), (2, .int p2), (3, .int p3), (4, .int v4)]) (w := 1) (v := x30) C dX3_misled_125 5 rfl rfl ex30.symm (Nat.le_of_ble_eq_true rfl) rfl ?_
    refine gj_goto (tgt := 80) C dX3_misled_128 rfl ?_
    refine gj_sub (lc' := [(0, rv (t + 1)), (1, .int p1), (2, .int p2), (3, .int p3), (4, .int v4), (5, .int x30)]) [1, 2, 3, 4, 5, 0] rfl ?_
    exact hX80 _ _ _ _ hw
  · have hw := it_f hw c29
    refine gj_iload C dX3_misled_121 5 rfl ?_
    refine gj_istore (lc' := [(4, .int v5), (0, rv (t + 1)), (1, .int p1), (2, .int p2), (3, .int p3), (5, .int v5)]) C dX3_misled_123 (Nat.le_of_ble_eq_true rfl) rfl ?_
    obtain ⟨x31, ex31⟩ : ∃ x31 : Int32, x31 = v5 + 1 := ⟨_, rfl⟩
    have hw := hw x31 ex31
    refine gj_iinc (lc' := [(5, .int x31), (4, .int v5), (0, rv (t + 1)), (1, .int p1), (2, .int p2), (3, .int p3)]) (w := 1) (v := x31) C dX3_misled_125 5 rfl rfl ex31.symm (Nat.le_of_ble_eq_true rfl) rfl ?_
    refine gj_goto (tgt := 80) C dX3_misled_128 rfl ?_
    refine gj_sub (lc' := [(0, rv (t + 1)), (1, .int p1), (2, .int p2), (3, .int p3), (4, .int v5), (5, .int x31)]) [2, 3, 4, 5, 1, 0] rfl ?_
    exact hX80 _ _ _ _ hw

def wf_X3_misled_80 (p1 : Int32) (p2 : Int32) (p3 : Int32) (Φ : Int32 → (Nat → Nat → Int32) → Int64 → Prop) (X80 : Int32 → Int32 → (Nat → Nat → Int32) → Int64 → Prop) (v4 : Int32) (v5 : Int32) (J : Nat → Nat → Int32) (lw : Int64) : Prop :=
(if ((1 : Int32) <<< ((J 0 2) &&& 31)) ≤ v5 then (if v4 = (-1) then Φ v4 J lw else (if p3 = 1 then Φ v4 J lw else (wp_X3_bits v4 (fun r24 J22 l23 => Φ r24 J22 l23) J lw))) else (if v4 = (-1) then wj_X3_misled_110 p1 p2 p3 Φ X80 v4 v5 J lw else (wp_X3_bits v5 (fun r34 J32 l33 => (wp_X3_bits v4 (fun r37 J35 l36 => (if r37 ≤ r34 then (∀ x39 : Int32, x39 = v5 + 1 → X80 v4 x39 J35 l36) else wj_X3_misled_110 p1 p2 p3 Φ X80 v4 v5 J35 l36)) J32 l33)) J lw)))
def wl_X3_misled_80 (p1 : Int32) (p2 : Int32) (p3 : Int32) (Φ : Int32 → (Nat → Nat → Int32) → Int64 → Prop) (v4 : Int32) (v5 : Int32) (J : Nat → Nat → Int32) (lw : Int64) : Prop := ∀ X80 : Int32 → Int32 → (Nat → Nat → Int32) → Int64 → Prop, (∀ v4 v5 J lw, wf_X3_misled_80 p1 p2 p3 Φ X80 v4 v5 J lw → X80 v4 v5 J lw) → X80 v4 v5 J lw
theorem wk_X3_misled_80 {g : Gm} {d : TD} {t : Nat} (B : BdT g d prog_11_method_72_code 6 (some .int) 6 141) (p1 : Int32) (p2 : Int32) (p3 : Int32) (Φ : Int32 → (Nat → Nat → Int32) → Int64 → Prop) (X80 : Int32 → Int32 → (Nat → Nat → Int32) → Int64 → Prop) (hX80 : ∀ v4 v5 J lw, X80 v4 v5 J lw → GJ g 6 (TP d t J lw (gs g).heap) 0 (TQ g d t (ansI Φ)) 80 [(0, rv (t + 1)), (1, .int p1), (2, .int p2), (3, .int p3), (4, .int v4), (5, .int v5)] []) (v4 : Int32) (v5 : Int32) (J : Nat → Nat → Int32) (lw : Int64) (hw : wf_X3_misled_80 p1 p2 p3 Φ X80 v4 v5 J lw) : GJ g 6 (TP d t J lw (gs g).heap) 0 (TQ g d t (ansI Φ)) 80 [(0, rv (t + 1)), (1, .int p1), (2, .int p2), (3, .int p3), (4, .int v4), (5, .int v5)] [] := by
  unfold wf_X3_misled_80 at hw
  have C := B.1
  have hW := B.2.1
  refine gj_iload C dX3_misled_80 5 rfl ?_
  refine gj_iconst (v := 1) C dX3_misled_82 rfl ?_
  refine gj_aload_n C dX3_misled_83 0 rfl ?_
  refine tg251 C hW dX3_misled_84 ?_
  refine gj_ishl C dX3_misled_87 ?_
  refine gj_icmp_ge (tgt := 131) C dX3_misled_88 rfl (fun c19 => ?_) (fun c19 => ?_)
  · have hw := it_t hw c19
    refine gj_iload C dX3_misled_131 4 rfl ?_
    refine gj_iconst (v := (-1)) C dX3_misled_133 rfl ?_
    refine gj_icmp_eq (tgt := 142) C dX3_misled_134 rfl (fun c20 => ?_) (fun c20 => ?_)
    · have hw := it_t hw c20
      refine gj_iload C dX3_misled_142 4 rfl ?_
      refine gj_goto (tgt := 152) C dX3_misled_144 rfl ?_
      exact gt_iret B hw dX3_misled_152
    · have hw := it_f hw c20
      refine gj_iload_n C dX3_misled_137 3 rfl ?_
      refine gj_iconst (v := 1) C dX3_misled_138 rfl ?_
      refine gj_icmp_ne (tgt := 147) C dX3_misled_139 rfl (fun c21 => ?_) (fun c21 => ?_)
      · have hw := it_f hw c21
        refine gj_iload C dX3_misled_147 4 rfl ?_
        refine tc_X3_bits B hw (Nat.le_of_ble_eq_true rfl) (Nat.le_of_ble_eq_true rfl) (Nat.le_of_ble_eq_true rfl) dX3_misled_149 (fun r24 J22 l23 hw => ?_)
        exact gt_iret B hw dX3_misled_152
      · have hw := it_t hw c21
        refine gj_iload C dX3_misled_142 4 rfl ?_
        refine gj_goto (tgt := 152) C dX3_misled_144 rfl ?_
        exact gt_iret B hw dX3_misled_152
  · have hw := it_f hw c19
    refine gj_iload C dX3_misled_91 4 rfl ?_
    refine gj_iconst (v := (-1)) C dX3_misled_93 rfl ?_
    refine gj_icmp_eq (tgt := 110) C dX3_misled_94 rfl (fun c25 => ?_) (fun c25 => ?_)
    · have hw := it_t hw c25
      exact wq_X3_misled_110 B _ _ _ _ _ hX80 _ _ _ _ hw
    · have hw := it_f hw c25
      refine gj_iload C dX3_misled_97 5 rfl ?_
      refine tc_X3_bits B hw (Nat.le_of_ble_eq_true rfl) (Nat.le_of_ble_eq_true rfl) (Nat.le_of_ble_eq_true rfl) dX3_misled_99 (fun r34 J32 l33 hw => ?_)
      refine gj_iload C dX3_misled_102 4 rfl ?_
      refine tc_X3_bits B hw (Nat.le_of_ble_eq_true rfl) (Nat.le_of_ble_eq_true rfl) (Nat.le_of_ble_eq_true rfl) dX3_misled_104 (fun r37 J35 l36 hw => ?_)
      refine gj_icmp_ge (tgt := 125) C dX3_misled_107 rfl (fun c38 => ?_) (fun c38 => ?_)
      · have hw := it_t hw c38
        obtain ⟨x39, ex39⟩ : ∃ x39 : Int32, x39 = v5 + 1 := ⟨_, rfl⟩
        have hw := hw x39 ex39
        refine gj_iinc (lc' := [(5, .int x39), (0, rv (t + 1)), (1, .int p1), (2, .int p2), (3, .int p3), (4, .int v4)]) (w := 1) (v := x39) C dX3_misled_125 5 rfl rfl ex39.symm (Nat.le_of_ble_eq_true rfl) rfl ?_
        refine gj_goto (tgt := 80) C dX3_misled_128 rfl ?_
        refine gj_sub (lc' := [(0, rv (t + 1)), (1, .int p1), (2, .int p2), (3, .int p3), (4, .int v4), (5, .int x39)]) [1, 2, 3, 4, 5, 0] rfl ?_
        exact hX80 _ _ _ _ hw
      · have hw := it_f hw c38
        exact wq_X3_misled_110 B _ _ _ _ _ hX80 _ _ _ _ hw

theorem wq_X3_misled_80 {g : Gm} {d : TD} {t : Nat} (B : BdT g d prog_11_method_72_code 6 (some .int) 6 141) (p1 : Int32) (p2 : Int32) (p3 : Int32) (Φ : Int32 → (Nat → Nat → Int32) → Int64 → Prop) (v4 : Int32) (v5 : Int32) (J : Nat → Nat → Int32) (lw : Int64) (hw : wl_X3_misled_80 p1 p2 p3 Φ v4 v5 J lw) : GJ g 6 (TP d t J lw (gs g).heap) 0 (TQ g d t (ansI Φ)) 80 [(0, rv (t + 1)), (1, .int p1), (2, .int p2), (3, .int p3), (4, .int v4), (5, .int v5)] [] :=
  hw (fun v4 v5 J lw => GJ g 6 (TP d t J lw (gs g).heap) 0 (TQ g d t (ansI Φ)) 80 [(0, rv (t + 1)), (1, .int p1), (2, .int p2), (3, .int p3), (4, .int v4), (5, .int v5)] []) (fun v4 v5 J lw h => wk_X3_misled_80 B p1 p2 p3 Φ (fun v4 v5 J lw => GJ g 6 (TP d t J lw (gs g).heap) 0 (TQ g d t (ansI Φ)) 80 [(0, rv (t + 1)), (1, .int p1), (2, .int p2), (3, .int p3), (4, .int v4), (5, .int v5)] []) (fun v4 v5 J lw h => h) v4 v5 J lw h)
def wf_X3_misled_45 (p1 : Int32) (p2 : Int32) (p3 : Int32) (Φ : Int32 → (Nat → Nat → Int32) → Int64 → Prop) (X45 : Int32 → (Nat → Nat → Int32) → Int64 → Prop) (v4 : Int32) (J : Nat → Nat → Int32) (lw : Int64) : Prop :=
(if (J 0 1) ≤ v4 then wl_X3_misled_80 p1 p2 p3 Φ (-1) 0 J lw else (wp_X3_signAt v4 p2 (fun r42 J40 l41 => (vp_in v4 (tln 47) ∧ (∀ J44 : Nat → Nat → Int32, J44 = u2 J40 47 (Int32.toNatClampNeg v4) r42 → (∀ x45 : Int32, x45 = v4 + 1 → X45 x45 J44 l41)))) J lw))
def wl_X3_misled_45 (p1 : Int32) (p2 : Int32) (p3 : Int32) (Φ : Int32 → (Nat → Nat → Int32) → Int64 → Prop) (v4 : Int32) (J : Nat → Nat → Int32) (lw : Int64) : Prop := ∀ X45 : Int32 → (Nat → Nat → Int32) → Int64 → Prop, (∀ v4 J lw, wf_X3_misled_45 p1 p2 p3 Φ X45 v4 J lw → X45 v4 J lw) → X45 v4 J lw
theorem wk_X3_misled_45 {g : Gm} {d : TD} {t : Nat} (B : BdT g d prog_11_method_72_code 6 (some .int) 6 141) (p1 : Int32) (p2 : Int32) (p3 : Int32) (Φ : Int32 → (Nat → Nat → Int32) → Int64 → Prop) (X45 : Int32 → (Nat → Nat → Int32) → Int64 → Prop) (hX45 : ∀ v4 J lw, X45 v4 J lw → GJ g 6 (TP d t J lw (gs g).heap) 0 (TQ g d t (ansI Φ)) 45 [(0, rv (t + 1)), (1, .int p1), (2, .int p2), (3, .int p3), (4, .int v4)] []) (v4 : Int32) (J : Nat → Nat → Int32) (lw : Int64) (hw : wf_X3_misled_45 p1 p2 p3 Φ X45 v4 J lw) : GJ g 6 (TP d t J lw (gs g).heap) 0 (TQ g d t (ansI Φ)) 45 [(0, rv (t + 1)), (1, .int p1), (2, .int p2), (3, .int p3), (4, .int v4)] [] := by
  unfold wf_X3_misled_45 at hw
  have C := B.1
  have hW := B.2.1
  refine gj_iload C dX3_misled_45 4 rfl ?_
  refine gj_aload_n C dX3_misled_47 0 rfl ?_
  refine tg248 C hW dX3_misled_48 ?_
  refine gj_icmp_ge (tgt := 74) C dX3_misled_51 rfl (fun c18 => ?_) (fun c18 => ?_)
  · have hw := it_t hw c18
    refine gj_iconst (v := (-1)) C dX3_misled_74 rfl ?_
    refine gj_istore (lc' := [(4, .int (-1)), (0, rv (t + 1)), (1, .int p1), (2, .int p2), (3, .int p3)]) C dX3_misled_75 (Nat.le_of_ble_eq_true rfl) rfl ?_
    refine gj_iconst (v := 0) C dX3_misled_77 rfl ?_
    refine gj_istore (lc' := [(5, .int 0), (4, .int (-1)), (0, rv (t + 1)), (1, .int p1), (2, .int p2), (3, .int p3)]) C dX3_misled_78 (Nat.le_of_ble_eq_true rfl) rfl ?_
    refine gj_sub (lc' := [(0, rv (t + 1)), (1, .int p1), (2, .int p2), (3, .int p3), (4, .int (-1)), (5, .int 0)]) [2, 3, 4, 5, 1, 0] rfl ?_
    exact wq_X3_misled_80 B _ _ _ _ _ _ _ _ hw
  · have hw := it_f hw c18
    refine gj_aload_n C dX3_misled_54 0 rfl ?_
    refine tg86 C hW dX3_misled_55 ?_
    refine gj_iload C dX3_misled_58 4 rfl ?_
    refine gj_aload_n C dX3_misled_60 0 rfl ?_
    refine gj_iload C dX3_misled_61 4 rfl ?_
    refine gj_iload_n C dX3_misled_63 2 rfl ?_
    refine tc_X3_signAt B hw (Nat.le_of_ble_eq_true rfl) (Nat.le_of_ble_eq_true rfl) (Nat.le_of_ble_eq_true rfl) dX3_misled_64 (fun r42 J40 l41 hw => ?_)
    obtain ⟨h43, hw⟩ := hw
    refine gt_iast C hW (by decide) h43 dX3_misled_67 ?_
    refine gt_nmJ (fun J44 eJ44 => ?_)
    have hw := hw J44 eJ44
    obtain ⟨x45, ex45⟩ : ∃ x45 : Int32, x45 = v4 + 1 := ⟨_, rfl⟩
    have hw := hw x45 ex45
    refine gj_iinc (lc' := [(4, .int x45), (0, rv (t + 1)), (1, .int p1), (2, .int p2), (3, .int p3)]) (w := 1) (v := x45) C dX3_misled_68 4 rfl rfl ex45.symm (Nat.le_of_ble_eq_true rfl) rfl ?_
    refine gj_goto (tgt := 45) C dX3_misled_71 rfl ?_
    refine gj_sub (lc' := [(0, rv (t + 1)), (1, .int p1), (2, .int p2), (3, .int p3), (4, .int x45)]) [1, 2, 3, 4, 0] rfl ?_
    exact hX45 _ _ _ hw

theorem wq_X3_misled_45 {g : Gm} {d : TD} {t : Nat} (B : BdT g d prog_11_method_72_code 6 (some .int) 6 141) (p1 : Int32) (p2 : Int32) (p3 : Int32) (Φ : Int32 → (Nat → Nat → Int32) → Int64 → Prop) (v4 : Int32) (J : Nat → Nat → Int32) (lw : Int64) (hw : wl_X3_misled_45 p1 p2 p3 Φ v4 J lw) : GJ g 6 (TP d t J lw (gs g).heap) 0 (TQ g d t (ansI Φ)) 45 [(0, rv (t + 1)), (1, .int p1), (2, .int p2), (3, .int p3), (4, .int v4)] [] :=
  hw (fun v4 J lw => GJ g 6 (TP d t J lw (gs g).heap) 0 (TQ g d t (ansI Φ)) 45 [(0, rv (t + 1)), (1, .int p1), (2, .int p2), (3, .int p3), (4, .int v4)] []) (fun v4 J lw h => wk_X3_misled_45 B p1 p2 p3 Φ (fun v4 J lw => GJ g 6 (TP d t J lw (gs g).heap) 0 (TQ g d t (ansI Φ)) 45 [(0, rv (t + 1)), (1, .int p1), (2, .int p2), (3, .int p3), (4, .int v4)] []) (fun v4 J lw h => h) v4 J lw h)
def wp_X3_misled (p1 : Int32) (p2 : Int32) (p3 : Int32) (Φ : Int32 → (Nat → Nat → Int32) → Int64 → Prop) (J : Nat → Nat → Int32) (lw : Int64) : Prop :=
(∀ J1 : Nat → Nat → Int32, J1 = u2 J 0 0 0 → (wp_X3_isRoom p1 (fun r4 J2 l3 => (if r4 = 0 then Φ 0 J2 l3 else (wp_X3_isHour p2 (fun r8 J6 l7 => (if r8 = 0 then Φ 0 J6 l7 else (wp_X3_isTwo p3 (fun r12 J10 l11 => (if r12 = 0 then Φ 0 J10 l11 else (wp_X3_isSpent p2 (fun r16 J14 l15 => (if r16 = 0 then wl_X3_misled_45 p1 p2 p3 Φ 0 J14 l15 else Φ (-2) J14 l15)) J10 l11))) J6 l7))) J2 l3))) J1 lw))
theorem wk_X3_misled {g : Gm} {d : TD} {t : Nat} (B : BdT g d prog_11_method_72_code 6 (some .int) 6 141) (p1 : Int32) (p2 : Int32) (p3 : Int32) (Φ : Int32 → (Nat → Nat → Int32) → Int64 → Prop) (J : Nat → Nat → Int32) (lw : Int64) (hw : wp_X3_misled p1 p2 p3 Φ J lw) : GJ g 6 (TP d t J lw (gs g).heap) 0 (TQ g d t (ansI Φ)) 0 [(0, rv (t + 1)), (1, .int p1), (2, .int p2), (3, .int p3)] [] := by
  unfold wp_X3_misled at hw
  have C := B.1
  have hW := B.2.1
  refine gj_aload_n C dX3_misled_0 0 rfl ?_
  refine gj_iconst (v := 0) C dX3_misled_1 rfl ?_
  refine tp134 C hW dX3_misled_2 ?_
  refine gt_nmJ (fun J1 eJ1 => ?_)
  have hw := hw J1 eJ1
  refine gj_aload_n C dX3_misled_5 0 rfl ?_
  refine gj_iload_n C dX3_misled_6 1 rfl ?_
  refine tc_X3_isRoom B hw (Nat.le_of_ble_eq_true rfl) (Nat.le_of_ble_eq_true rfl) (Nat.le_of_ble_eq_true rfl) dX3_misled_7 (fun r4 J2 l3 br4 hw => ?_)
  refine gj_if_eq (tgt := 29) C dX3_misled_10 rfl (fun c5 => ?_) (fun c5 => ?_)
  · have hw := it_t hw c5
    refine gj_iconst (v := 0) C dX3_misled_29 rfl ?_
    exact gt_iret B hw dX3_misled_30
  · have hw := it_f hw c5
    refine gj_aload_n C dX3_misled_13 0 rfl ?_
    refine gj_iload_n C dX3_misled_14 2 rfl ?_
    refine tc_X3_isHour B hw (Nat.le_of_ble_eq_true rfl) (Nat.le_of_ble_eq_true rfl) (Nat.le_of_ble_eq_true rfl) dX3_misled_15 (fun r8 J6 l7 br8 hw => ?_)
    refine gj_if_eq (tgt := 29) C dX3_misled_18 rfl (fun c9 => ?_) (fun c9 => ?_)
    · have hw := it_t hw c9
      refine gj_iconst (v := 0) C dX3_misled_29 rfl ?_
      exact gt_iret B hw dX3_misled_30
    · have hw := it_f hw c9
      refine gj_aload_n C dX3_misled_21 0 rfl ?_
      refine gj_iload_n C dX3_misled_22 3 rfl ?_
      refine tc_X3_isTwo B hw (Nat.le_of_ble_eq_true rfl) (Nat.le_of_ble_eq_true rfl) (Nat.le_of_ble_eq_true rfl) dX3_misled_23 (fun r12 J10 l11 br12 hw => ?_)
      refine gj_if_ne (tgt := 31) C dX3_misled_26 rfl (fun c13 => ?_) (fun c13 => ?_)
      · have hw := it_f hw c13
        refine gj_aload_n C dX3_misled_31 0 rfl ?_
        refine gj_iload_n C dX3_misled_32 2 rfl ?_
        refine tc_X3_isSpent B hw (Nat.le_of_ble_eq_true rfl) (Nat.le_of_ble_eq_true rfl) (Nat.le_of_ble_eq_true rfl) dX3_misled_33 (fun r16 J14 l15 br16 hw => ?_)
        refine gj_if_eq (tgt := 42) C dX3_misled_36 rfl (fun c17 => ?_) (fun c17 => ?_)
        · have hw := it_t hw c17
          refine gj_iconst (v := 0) C dX3_misled_42 rfl ?_
          refine gj_istore (lc' := [(4, .int 0), (0, rv (t + 1)), (1, .int p1), (2, .int p2), (3, .int p3)]) C dX3_misled_43 (Nat.le_of_ble_eq_true rfl) rfl ?_
          refine gj_sub (lc' := [(0, rv (t + 1)), (1, .int p1), (2, .int p2), (3, .int p3), (4, .int 0)]) [1, 2, 3, 4, 0] rfl ?_
          exact wq_X3_misled_45 B _ _ _ _ _ _ _ hw
        · have hw := it_f hw c17
          refine gj_bipush (v := (-2)) C dX3_misled_39 rfl ?_
          exact gt_iret B hw dX3_misled_41
      · have hw := it_t hw c13
        refine gj_iconst (v := 0) C dX3_misled_29 rfl ?_
        exact gt_iret B hw dX3_misled_30

theorem met_X3_misled (l : Launch) {d : TD} {t : Nat} {J : Nat → Nat → Int32} {lw : Int64} {p1 : Int32} {p2 : Int32} {p3 : Int32} {Φ : Int32 → (Nat → Nat → Int32) → Int64 → Prop} (hw : wp_X3_misled p1 p2 p3 Φ J lw) : MetT l yX3_misled prog_11_method_72_code 6 (some .int) 6 141 [.ref t, .int p1, .int p2, .int p3] d t J lw (ansI Φ) :=
  mt_of (by decide +kernel) rfl (Nat.le_of_ble_eq_true rfl) (fun g _ B => wk_X3_misled B _ _ _ _ J lw hw)
/-! chanceOf(II)I -/
def wf_X3_chanceOf_25 (p1 : Int32) (p2 : Int32) (Φ : Int32 → (Nat → Nat → Int32) → Int64 → Prop) (X25 : Int32 → Int32 → Int32 → (Nat → Nat → Int32) → Int64 → Prop) (v3 : Int32) (v4 : Int32) (v5 : Int32) (J : Nat → Nat → Int32) (lw : Int64) : Prop :=
(if 18 ≤ v5 then (vp_in ((24 * v3) + p2) (tln 11) ∧ (wp_X3_bits (J 11 (Int32.toNatClampNeg ((24 * v3) + p2))) (fun r9 J7 l8 => (¬ r9 = 0 ∧ Φ ((27720 / r9) * v4) J7 l8)) J lw)) else (vp_in ((24 * v3) + p2) (tln 11) ∧ (if (((J 11 (Int32.toNatClampNeg ((24 * v3) + p2))) >>> (v5 &&& 31)) &&& 1) = 1 then (wp_X3_signOf v3 v5 (fun r17 J15 l16 => (∀ x18 : Int32, x18 = (if r17 = 0 then 1 else 0) → (∀ x20 : Int32, x20 = (v4 + x18) → (∀ x21 : Int32, x21 = v5 + 1 → X25 v3 x20 x21 J15 l16)))) J lw) else (∀ x13 : Int32, x13 = (v4 + 0) → (∀ x14 : Int32, x14 = v5 + 1 → X25 v3 x13 x14 J lw)))))
def wl_X3_chanceOf_25 (p1 : Int32) (p2 : Int32) (Φ : Int32 → (Nat → Nat → Int32) → Int64 → Prop) (v3 : Int32) (v4 : Int32) (v5 : Int32) (J : Nat → Nat → Int32) (lw : Int64) : Prop := ∀ X25 : Int32 → Int32 → Int32 → (Nat → Nat → Int32) → Int64 → Prop, (∀ v3 v4 v5 J lw, wf_X3_chanceOf_25 p1 p2 Φ X25 v3 v4 v5 J lw → X25 v3 v4 v5 J lw) → X25 v3 v4 v5 J lw
theorem wk_X3_chanceOf_25 {g : Gm} {d : TD} {t : Nat} (B : BdT g d prog_11_method_73_code 6 (some .int) 3 67) (p1 : Int32) (p2 : Int32) (Φ : Int32 → (Nat → Nat → Int32) → Int64 → Prop) (X25 : Int32 → Int32 → Int32 → (Nat → Nat → Int32) → Int64 → Prop) (hX25 : ∀ v3 v4 v5 J lw, X25 v3 v4 v5 J lw → GJ g 6 (TP d t J lw (gs g).heap) 0 (TQ g d t (ansI Φ)) 25 [(0, rv (t + 1)), (2, .int p2), (3, .int v3), (4, .int v4), (5, .int v5)] []) (v3 : Int32) (v4 : Int32) (v5 : Int32) (J : Nat → Nat → Int32) (lw : Int64) (hw : wf_X3_chanceOf_25 p1 p2 Φ X25 v3 v4 v5 J lw) : GJ g 6 (TP d t J lw (gs g).heap) 0 (TQ g d t (ansI Φ)) 25 [(0, rv (t + 1)), (2, .int p2), (3, .int v3), (4, .int v4), (5, .int v5)] [] := by
  unfold wf_X3_chanceOf_25 at hw
  have C := B.1
  have hW := B.2.1
  refine gj_iload C dX3_chanceOf_25 4 rfl ?_
  refine gj_bipush (v := 18) C dX3_chanceOf_27 rfl ?_
  refine gj_icmp_ge (tgt := 78) C dX3_chanceOf_29 rfl (fun c5 => ?_) (fun c5 => ?_)
  · have hw := it_t hw c5
    refine gj_sipush (v := 27720) C dX3_chanceOf_78 rfl ?_
    refine gj_aload_n C dX3_chanceOf_81 0 rfl ?_
    refine tg28 C hW dX3_chanceOf_82 ?_
    refine gj_bipush (v := 24) C dX3_chanceOf_85 rfl ?_
    refine gj_iload_n C dX3_chanceOf_87 2 rfl ?_
    refine gj_imul C dX3_chanceOf_88 ?_
    refine gj_iload_n C dX3_chanceOf_89 1 rfl ?_
    refine gj_iadd C dX3_chanceOf_90 ?_
    obtain ⟨h6, hw⟩ := hw
    refine gt_iald C hW (by decide) h6 dX3_chanceOf_91 ?_
    refine tc_X3_bits B hw (Nat.le_of_ble_eq_true rfl) (Nat.le_of_ble_eq_true rfl) (Nat.le_of_ble_eq_true rfl) dX3_chanceOf_92 (fun r9 J7 l8 hw => ?_)
    obtain ⟨h10, hw⟩ := hw
    refine gj_idiv C dX3_chanceOf_95 h10 ?_
    refine gj_iload C dX3_chanceOf_96 3 rfl ?_
    refine gj_imul C dX3_chanceOf_98 ?_
    exact gt_iret B hw dX3_chanceOf_99
  · have hw := it_f hw c5
    refine gj_iload C dX3_chanceOf_32 3 rfl ?_
    refine gj_aload_n C dX3_chanceOf_34 0 rfl ?_
    refine tg28 C hW dX3_chanceOf_35 ?_
    refine gj_bipush (v := 24) C dX3_chanceOf_38 rfl ?_
    refine gj_iload_n C dX3_chanceOf_40 2 rfl ?_
    refine gj_imul C dX3_chanceOf_41 ?_
    refine gj_iload_n C dX3_chanceOf_42 1 rfl ?_
    refine gj_iadd C dX3_chanceOf_43 ?_
    obtain ⟨h11, hw⟩ := hw
    refine gt_iald C hW (by decide) h11 dX3_chanceOf_44 ?_
    refine gj_iload C dX3_chanceOf_45 4 rfl ?_
    refine gj_ishr C dX3_chanceOf_47 ?_
    refine gj_iconst (v := 1) C dX3_chanceOf_48 rfl ?_
    refine gj_iand C dX3_chanceOf_49 ?_
    refine gj_iconst (v := 1) C dX3_chanceOf_50 rfl ?_
    refine gj_icmp_ne (tgt := 68) C dX3_chanceOf_51 rfl (fun c12 => ?_) (fun c12 => ?_)
    · have hw := it_f hw c12
      refine gj_iconst (v := 0) C dX3_chanceOf_68 rfl ?_
      refine gj_iadd C dX3_chanceOf_69 ?_
      refine gj_topi (fun x13 ex13 => ?_)
      have hw := hw x13 ex13
      refine gj_istore (lc' := [(4, .int x13), (0, rv (t + 1)), (2, .int p2), (3, .int v3), (5, .int v5)]) C dX3_chanceOf_70 (Nat.le_of_ble_eq_true rfl) rfl ?_
      obtain ⟨x14, ex14⟩ : ∃ x14 : Int32, x14 = v5 + 1 := ⟨_, rfl⟩
      have hw := hw x14 ex14
      refine gj_iinc (lc' := [(5, .int x14), (4, .int x13), (0, rv (t + 1)), (2, .int p2), (3, .int v3)]) (w := 1) (v := x14) C dX3_chanceOf_72 4 rfl rfl ex14.symm (Nat.le_of_ble_eq_true rfl) rfl ?_
      refine gj_goto (tgt := 25) C dX3_chanceOf_75 rfl ?_
      refine gj_sub (lc' := [(0, rv (t + 1)), (2, .int p2), (3, .int v3), (4, .int x13), (5, .int x14)]) [2, 3, 4, 1, 0] rfl ?_
      exact hX25 _ _ _ _ _ hw
    · have hw := it_t hw c12
      refine gj_aload_n C dX3_chanceOf_54 0 rfl ?_
      refine gj_iload_n C dX3_chanceOf_55 2 rfl ?_
      refine gj_iload C dX3_chanceOf_56 4 rfl ?_
      refine tc_X3_signOf B hw (Nat.le_of_ble_eq_true rfl) (Nat.le_of_ble_eq_true rfl) (Nat.le_of_ble_eq_true rfl) dX3_chanceOf_58 (fun r17 J15 l16 hw => ?_)
      have key : ∀ x18 : Int32, x18 = (if r17 = 0 then 1 else 0) → GJ g 6 (TP d t J15 l16 (gs g).heap) 0 (TQ g d t (ansI Φ)) 69 [(0, rv (t + 1)), (2, .int p2), (3, .int v3), (4, .int v4), (5, .int v5)] [.int x18, .int v4] → GJ g 6 (TP d t J15 l16 (gs g).heap) 0 (TQ g d t (ansI Φ)) 61 [(0, rv (t + 1)), (2, .int p2), (3, .int v3), (4, .int v4), (5, .int v5)] [.int r17, .int v4] := by
        intro x18 ex18 kk
        refine gj_if_ne (tgt := 68) C dX3_chanceOf_61 rfl (fun c19 => ?_) (fun c19 => ?_)
        · refine gj_iconst (v := 0) C dX3_chanceOf_68 rfl ?_
          rw [if_neg c19] at ex18
          subst ex18
          exact kk
        · refine gj_iconst (v := 1) C dX3_chanceOf_64 rfl ?_
          refine gj_goto (tgt := 69) C dX3_chanceOf_65 rfl ?_
          rw [if_pos c19] at ex18
          subst ex18
          exact kk
      obtain ⟨x18, ex18⟩ : ∃ x18 : Int32, x18 = (if r17 = 0 then 1 else 0) := ⟨_, rfl⟩
      have bx18 : x18 = 0 ∨ x18 = 1 := by rw [ex18]; (repeat' split) <;> simp
      refine key x18 ex18 ?_
      have hw := hw x18 ex18
      clear key
      refine gj_iadd C dX3_chanceOf_69 ?_
      refine gj_topi (fun x20 ex20 => ?_)
      have hw := hw x20 ex20
      refine gj_istore (lc' := [(4, .int x20), (0, rv (t + 1)), (2, .int p2), (3, .int v3), (5, .int v5)]) C dX3_chanceOf_70 (Nat.le_of_ble_eq_true rfl) rfl ?_
      obtain ⟨x21, ex21⟩ : ∃ x21 : Int32, x21 = v5 + 1 := ⟨_, rfl⟩
      have hw := hw x21 ex21
      refine gj_iinc (lc' := [(5, .int x21), (4, .int x20), (0, rv (t + 1)), (2, .int p2), (3, .int v3)]) (w := 1) (v := x21) C dX3_chanceOf_72 4 rfl rfl ex21.symm (Nat.le_of_ble_eq_true rfl) rfl ?_
      refine gj_goto (tgt := 25) C dX3_chanceOf_75 rfl ?_
      refine gj_sub (lc' := [(0, rv (t + 1)), (2, .int p2), (3, .int v3), (4, .int x20), (5, .int x21)]) [2, 3, 4, 1, 0] rfl ?_
      exact hX25 _ _ _ _ _ hw

theorem wq_X3_chanceOf_25 {g : Gm} {d : TD} {t : Nat} (B : BdT g d prog_11_method_73_code 6 (some .int) 3 67) (p1 : Int32) (p2 : Int32) (Φ : Int32 → (Nat → Nat → Int32) → Int64 → Prop) (v3 : Int32) (v4 : Int32) (v5 : Int32) (J : Nat → Nat → Int32) (lw : Int64) (hw : wl_X3_chanceOf_25 p1 p2 Φ v3 v4 v5 J lw) : GJ g 6 (TP d t J lw (gs g).heap) 0 (TQ g d t (ansI Φ)) 25 [(0, rv (t + 1)), (2, .int p2), (3, .int v3), (4, .int v4), (5, .int v5)] [] :=
  hw (fun v3 v4 v5 J lw => GJ g 6 (TP d t J lw (gs g).heap) 0 (TQ g d t (ansI Φ)) 25 [(0, rv (t + 1)), (2, .int p2), (3, .int v3), (4, .int v4), (5, .int v5)] []) (fun v3 v4 v5 J lw h => wk_X3_chanceOf_25 B p1 p2 Φ (fun v3 v4 v5 J lw => GJ g 6 (TP d t J lw (gs g).heap) 0 (TQ g d t (ansI Φ)) 25 [(0, rv (t + 1)), (2, .int p2), (3, .int v3), (4, .int v4), (5, .int v5)] []) (fun v3 v4 v5 J lw h => h) v3 v4 v5 J lw h)
def wp_X3_chanceOf (p1 : Int32) (p2 : Int32) (Φ : Int32 → (Nat → Nat → Int32) → Int64 → Prop) (J : Nat → Nat → Int32) (lw : Int64) : Prop :=
(vp_in p1 (tln 6) ∧ (if (J 6 (Int32.toNatClampNeg p1)) = (-1) then Φ 0 J lw else (vp_in p1 (tln 6) ∧ (∀ x4 : Int32, x4 = (J 6 (Int32.toNatClampNeg p1)) → wl_X3_chanceOf_25 p1 p2 Φ x4 0 0 J lw))))
theorem wk_X3_chanceOf {g : Gm} {d : TD} {t : Nat} (B : BdT g d prog_11_method_73_code 6 (some .int) 3 67) (p1 : Int32) (p2 : Int32) (Φ : Int32 → (Nat → Nat → Int32) → Int64 → Prop) (J : Nat → Nat → Int32) (lw : Int64) (hw : wp_X3_chanceOf p1 p2 Φ J lw) : GJ g 6 (TP d t J lw (gs g).heap) 0 (TQ g d t (ansI Φ)) 0 [(0, rv (t + 1)), (1, .int p1), (2, .int p2)] [] := by
  unfold wp_X3_chanceOf at hw
  have C := B.1
  have hW := B.2.1
  refine gj_aload_n C dX3_chanceOf_0 0 rfl ?_
  refine tg13 C hW dX3_chanceOf_1 ?_
  refine gj_iload_n C dX3_chanceOf_4 1 rfl ?_
  obtain ⟨h1, hw⟩ := hw
  refine gt_iald C hW (by decide) h1 dX3_chanceOf_5 ?_
  refine gj_iconst (v := (-1)) C dX3_chanceOf_6 rfl ?_
  refine gj_icmp_ne (tgt := 12) C dX3_chanceOf_7 rfl (fun c2 => ?_) (fun c2 => ?_)
  · have hw := it_f hw c2
    refine gj_aload_n C dX3_chanceOf_12 0 rfl ?_
    refine tg13 C hW dX3_chanceOf_13 ?_
    refine gj_iload_n C dX3_chanceOf_16 1 rfl ?_
    obtain ⟨h3, hw⟩ := hw
    refine gt_iald C hW (by decide) h3 dX3_chanceOf_17 ?_
    refine gj_topi (fun x4 ex4 => ?_)
    have hw := hw x4 ex4
    refine gj_istore_n (lc' := [(3, .int x4), (0, rv (t + 1)), (1, .int p1), (2, .int p2)]) C dX3_chanceOf_18 (Nat.le_of_ble_eq_true rfl) rfl ?_
    refine gj_iconst (v := 0) C dX3_chanceOf_19 rfl ?_
    refine gj_istore (lc' := [(4, .int 0), (3, .int x4), (0, rv (t + 1)), (1, .int p1), (2, .int p2)]) C dX3_chanceOf_20 (Nat.le_of_ble_eq_true rfl) rfl ?_
    refine gj_iconst (v := 0) C dX3_chanceOf_22 rfl ?_
    refine gj_istore (lc' := [(5, .int 0), (4, .int 0), (3, .int x4), (0, rv (t + 1)), (1, .int p1), (2, .int p2)]) C dX3_chanceOf_23 (Nat.le_of_ble_eq_true rfl) rfl ?_
    refine gj_sub (lc' := [(0, rv (t + 1)), (2, .int p2), (3, .int x4), (4, .int 0), (5, .int 0)]) [3, 5, 2, 1, 0] rfl ?_
    exact wq_X3_chanceOf_25 B _ _ _ _ _ _ _ _ hw
  · have hw := it_t hw c2
    refine gj_iconst (v := 0) C dX3_chanceOf_10 rfl ?_
    exact gt_iret B hw dX3_chanceOf_11

theorem met_X3_chanceOf (l : Launch) {d : TD} {t : Nat} {J : Nat → Nat → Int32} {lw : Int64} {p1 : Int32} {p2 : Int32} {Φ : Int32 → (Nat → Nat → Int32) → Int64 → Prop} (hw : wp_X3_chanceOf p1 p2 Φ J lw) : MetT l yX3_chanceOf prog_11_method_73_code 6 (some .int) 3 67 [.ref t, .int p1, .int p2] d t J lw (ansI Φ) :=
  mt_of (by decide +kernel) rfl (Nat.le_of_ble_eq_true rfl) (fun g _ B => wk_X3_chanceOf B _ _ _ J lw hw)
theorem tc_X3_chanceOf {g : Gm} {d : TD} {t : Nat} {cc : ByteArray} {nL : Nat} {ret : Option FieldType} {fr lo : Nat} (B : BdT g d cc nL ret fr lo) {J : Nat → Nat → Int32} {lw : Int64} {H0 : Heap} {Q : State → Prop} {pc : Nat} {lc : List (Nat × Value)} {rest : List Value} {p1 : Int32} {p2 : Int32} {Φ : Int32 → (Nat → Nat → Int32) → Int64 → Prop} (hw : wp_X3_chanceOf p1 p2 Φ J lw) (hf : 4 ≤ fr) (hlo : 92 ≤ lo) (hrest : (rest.map fun v => v.category).sum ≤ 8) (dg : decode cc pc = .ok (.invokevirtual 371, 3)) (k : ∀ (r : Int32) J' lw', Φ r J' lw' → GJ g nL (TP d t J' lw' H0) 0 Q (pc + 3) lc (.int r :: rest)) : GJ g nL (TP d t J lw H0) 0 Q pc lc (.int p2 :: .int p1 :: rv (t + 1) :: rest) :=
  gt_callV (n := 2) (As := [.int p1, .int p2]) B (met_X3_chanceOf g.2.1 hw) (lw_V q1683 q1685 qs79 q97 q1686) ⟨rfl, by decide +kernel, by decide +kernel, by decide +kernel⟩ rfl hf hlo ⟨Nat.zero_le _, Nat.zero_le _⟩ rfl hrest dg (fun v J' lw' hp => by obtain ⟨r, rfl, hp⟩ := hp; exact k r J' lw' hp)
/-! chance(II)I -/
def wp_X3_chance (p1 : Int32) (p2 : Int32) (Φ : Int32 → (Nat → Nat → Int32) → Int64 → Prop) (J : Nat → Nat → Int32) (lw : Int64) : Prop :=
(∀ J1 : Nat → Nat → Int32, J1 = u2 J 0 0 0 → (wp_X3_isRoom p1 (fun r4 J2 l3 => (if r4 = 0 then Φ 0 J2 l3 else (wp_X3_isHour p2 (fun r8 J6 l7 => (if r8 = 0 then Φ 0 J6 l7 else (wp_X3_chanceOf p1 p2 (fun r12 J10 l11 => Φ r12 J10 l11) J6 l7))) J2 l3))) J1 lw))
theorem wk_X3_chance {g : Gm} {d : TD} {t : Nat} (B : BdT g d prog_11_method_74_code 3 (some .int) 4 92) (p1 : Int32) (p2 : Int32) (Φ : Int32 → (Nat → Nat → Int32) → Int64 → Prop) (J : Nat → Nat → Int32) (lw : Int64) (hw : wp_X3_chance p1 p2 Φ J lw) : GJ g 3 (TP d t J lw (gs g).heap) 0 (TQ g d t (ansI Φ)) 0 [(0, rv (t + 1)), (1, .int p1), (2, .int p2)] [] := by
  unfold wp_X3_chance at hw
  have C := B.1
  have hW := B.2.1
  refine gj_aload_n C dX3_chance_0 0 rfl ?_
  refine gj_iconst (v := 0) C dX3_chance_1 rfl ?_
  refine tp134 C hW dX3_chance_2 ?_
  refine gt_nmJ (fun J1 eJ1 => ?_)
  have hw := hw J1 eJ1
  refine gj_aload_n C dX3_chance_5 0 rfl ?_
  refine gj_iload_n C dX3_chance_6 1 rfl ?_
  refine tc_X3_isRoom B hw (Nat.le_of_ble_eq_true rfl) (Nat.le_of_ble_eq_true rfl) (Nat.le_of_ble_eq_true rfl) dX3_chance_7 (fun r4 J2 l3 br4 hw => ?_)
  refine gj_if_eq (tgt := 30) C dX3_chance_10 rfl (fun c5 => ?_) (fun c5 => ?_)
  · have hw := it_t hw c5
    refine gj_iconst (v := 0) C dX3_chance_30 rfl ?_
    exact gt_iret B hw dX3_chance_31
  · have hw := it_f hw c5
    refine gj_aload_n C dX3_chance_13 0 rfl ?_
    refine gj_iload_n C dX3_chance_14 2 rfl ?_
    refine tc_X3_isHour B hw (Nat.le_of_ble_eq_true rfl) (Nat.le_of_ble_eq_true rfl) (Nat.le_of_ble_eq_true rfl) dX3_chance_15 (fun r8 J6 l7 br8 hw => ?_)
    refine gj_if_eq (tgt := 30) C dX3_chance_18 rfl (fun c9 => ?_) (fun c9 => ?_)
    · have hw := it_t hw c9
      refine gj_iconst (v := 0) C dX3_chance_30 rfl ?_
      exact gt_iret B hw dX3_chance_31
    · have hw := it_f hw c9
      refine gj_aload_n C dX3_chance_21 0 rfl ?_
      refine gj_iload_n C dX3_chance_22 1 rfl ?_
      refine gj_iload_n C dX3_chance_23 2 rfl ?_
      refine tc_X3_chanceOf B hw (Nat.le_of_ble_eq_true rfl) (Nat.le_of_ble_eq_true rfl) (Nat.le_of_ble_eq_true rfl) dX3_chance_24 (fun r12 J10 l11 hw => ?_)
      refine gj_goto (tgt := 31) C dX3_chance_27 rfl ?_
      exact gt_iret B hw dX3_chance_31

theorem met_X3_chance (l : Launch) {d : TD} {t : Nat} {J : Nat → Nat → Int32} {lw : Int64} {p1 : Int32} {p2 : Int32} {Φ : Int32 → (Nat → Nat → Int32) → Int64 → Prop} (hw : wp_X3_chance p1 p2 Φ J lw) : MetT l yX3_chance prog_11_method_74_code 3 (some .int) 4 92 [.ref t, .int p1, .int p2] d t J lw (ansI Φ) :=
  mt_of (by decide +kernel) rfl (Nat.le_of_ble_eq_true rfl) (fun g _ B => wk_X3_chance B _ _ _ J lw hw)
/-! bestOf(II)I -/
def wf_X3_bestOf_5 (p1 : Int32) (p2 : Int32) (Φ : Int32 → (Nat → Nat → Int32) → Int64 → Prop) (X5 : Int32 → Int32 → (Nat → Nat → Int32) → Int64 → Prop) (v3 : Int32) (v4 : Int32) (J : Nat → Nat → Int32) (lw : Int64) : Prop :=
(if p2 ≤ v4 then Φ v3 J lw else (vp_in v4 (tln 49) ∧ (if (J 49 (Int32.toNatClampNeg v4)) = p1 then (vp_in ((6 * p1) + v4) (tln 48) ∧ (if (J 48 (Int32.toNatClampNeg ((6 * p1) + v4))) = 0 then (∀ x14 : Int32, x14 = v4 + 1 → X5 v3 x14 J lw) else (if v3 = (-1) then (∀ x8 : Int32, x8 = v4 + 1 → X5 v4 x8 J lw) else (vp_in ((6 * p1) + v4) (tln 48) ∧ (vp_in ((6 * p1) + v3) (tln 48) ∧ (if (J 48 (Int32.toNatClampNeg ((6 * p1) + v4))) ≤ (J 48 (Int32.toNatClampNeg ((6 * p1) + v3))) then (∀ x12 : Int32, x12 = v4 + 1 → X5 v3 x12 J lw) else (∀ x13 : Int32, x13 = v4 + 1 → X5 v4 x13 J lw))))))) else (∀ x4 : Int32, x4 = v4 + 1 → X5 v3 x4 J lw))))
def wl_X3_bestOf_5 (p1 : Int32) (p2 : Int32) (Φ : Int32 → (Nat → Nat → Int32) → Int64 → Prop) (v3 : Int32) (v4 : Int32) (J : Nat → Nat → Int32) (lw : Int64) : Prop := ∀ X5 : Int32 → Int32 → (Nat → Nat → Int32) → Int64 → Prop, (∀ v3 v4 J lw, wf_X3_bestOf_5 p1 p2 Φ X5 v3 v4 J lw → X5 v3 v4 J lw) → X5 v3 v4 J lw
theorem wk_X3_bestOf_5 {g : Gm} {d : TD} {t : Nat} (B : BdT g d prog_11_method_75_code 5 (some .int) 0 0) (p1 : Int32) (p2 : Int32) (Φ : Int32 → (Nat → Nat → Int32) → Int64 → Prop) (X5 : Int32 → Int32 → (Nat → Nat → Int32) → Int64 → Prop) (hX5 : ∀ v3 v4 J lw, X5 v3 v4 J lw → GJ g 5 (TP d t J lw (gs g).heap) 0 (TQ g d t (ansI Φ)) 5 [(0, rv (t + 1)), (1, .int p1), (2, .int p2), (3, .int v3), (4, .int v4)] []) (v3 : Int32) (v4 : Int32) (J : Nat → Nat → Int32) (lw : Int64) (hw : wf_X3_bestOf_5 p1 p2 Φ X5 v3 v4 J lw) : GJ g 5 (TP d t J lw (gs g).heap) 0 (TQ g d t (ansI Φ)) 5 [(0, rv (t + 1)), (1, .int p1), (2, .int p2), (3, .int v3), (4, .int v4)] [] := by
  unfold wf_X3_bestOf_5 at hw
  have C := B.1
  have hW := B.2.1
  refine gj_iload C dX3_bestOf_5 4 rfl ?_
  refine gj_iload_n C dX3_bestOf_7 2 rfl ?_
  refine gj_icmp_ge (tgt := 80) C dX3_bestOf_8 rfl (fun c1 => ?_) (fun c1 => ?_)
  · have hw := it_t hw c1
    refine gj_iload_n C dX3_bestOf_80 3 rfl ?_
    exact gt_iret B hw dX3_bestOf_81
  · have hw := it_f hw c1
    refine gj_aload_n C dX3_bestOf_11 0 rfl ?_
    refine tg92 C hW dX3_bestOf_12 ?_
    refine gj_iload C dX3_bestOf_15 4 rfl ?_
    obtain ⟨h2, hw⟩ := hw
    refine gt_iald C hW (by decide) h2 dX3_bestOf_17 ?_
    refine gj_iload_n C dX3_bestOf_18 1 rfl ?_
    refine gj_icmp_ne (tgt := 74) C dX3_bestOf_19 rfl (fun c3 => ?_) (fun c3 => ?_)
    · have hw := it_f hw c3
      obtain ⟨x4, ex4⟩ : ∃ x4 : Int32, x4 = v4 + 1 := ⟨_, rfl⟩
      have hw := hw x4 ex4
      refine gj_iinc (lc' := [(4, .int x4), (0, rv (t + 1)), (1, .int p1), (2, .int p2), (3, .int v3)]) (w := 1) (v := x4) C dX3_bestOf_74 4 rfl rfl ex4.symm (Nat.le_of_ble_eq_true rfl) rfl ?_
      refine gj_goto (tgt := 5) C dX3_bestOf_77 rfl ?_
      refine gj_sub (lc' := [(0, rv (t + 1)), (1, .int p1), (2, .int p2), (3, .int v3), (4, .int x4)]) [1, 2, 3, 4, 0] rfl ?_
      exact hX5 _ _ _ _ hw
    · have hw := it_t hw c3
      refine gj_aload_n C dX3_bestOf_22 0 rfl ?_
      refine tg89 C hW dX3_bestOf_23 ?_
      refine gj_bipush (v := 6) C dX3_bestOf_26 rfl ?_
      refine gj_iload_n C dX3_bestOf_28 1 rfl ?_
      refine gj_imul C dX3_bestOf_29 ?_
      refine gj_iload C dX3_bestOf_30 4 rfl ?_
      refine gj_iadd C dX3_bestOf_32 ?_
      obtain ⟨h5, hw⟩ := hw
      refine gt_iald C hW (by decide) h5 dX3_bestOf_33 ?_
      refine gj_if_ne (tgt := 40) C dX3_bestOf_34 rfl (fun c6 => ?_) (fun c6 => ?_)
      · have hw := it_f hw c6
        refine gj_iload_n C dX3_bestOf_40 3 rfl ?_
        refine gj_iconst (v := (-1)) C dX3_bestOf_41 rfl ?_
        refine gj_icmp_eq (tgt := 71) C dX3_bestOf_42 rfl (fun c7 => ?_) (fun c7 => ?_)
        · have hw := it_t hw c7
          refine gj_iload C dX3_bestOf_71 4 rfl ?_
          refine gj_istore_n (lc' := [(3, .int v4), (0, rv (t + 1)), (1, .int p1), (2, .int p2), (4, .int v4)]) C dX3_bestOf_73 (Nat.le_of_ble_eq_true rfl) rfl ?_
          obtain ⟨x8, ex8⟩ : ∃ x8 : Int32, x8 = v4 + 1 := ⟨_, rfl⟩
          have hw := hw x8 ex8
          refine gj_iinc (lc' := [(4, .int x8), (3, .int v4), (0, rv (t + 1)), (1, .int p1), (2, .int p2)]) (w := 1) (v := x8) C dX3_bestOf_74 4 rfl rfl ex8.symm (Nat.le_of_ble_eq_true rfl) rfl ?_
          refine gj_goto (tgt := 5) C dX3_bestOf_77 rfl ?_
          refine gj_sub (lc' := [(0, rv (t + 1)), (1, .int p1), (2, .int p2), (3, .int v4), (4, .int x8)]) [2, 3, 4, 1, 0] rfl ?_
          exact hX5 _ _ _ _ hw
        · have hw := it_f hw c7
          refine gj_aload_n C dX3_bestOf_45 0 rfl ?_
          refine tg89 C hW dX3_bestOf_46 ?_
          refine gj_bipush (v := 6) C dX3_bestOf_49 rfl ?_
          refine gj_iload_n C dX3_bestOf_51 1 rfl ?_
          refine gj_imul C dX3_bestOf_52 ?_
          refine gj_iload C dX3_bestOf_53 4 rfl ?_
          refine gj_iadd C dX3_bestOf_55 ?_
          obtain ⟨h9, hw⟩ := hw
          refine gt_iald C hW (by decide) h9 dX3_bestOf_56 ?_
          refine gj_aload_n C dX3_bestOf_57 0 rfl ?_
          refine tg89 C hW dX3_bestOf_58 ?_
          refine gj_bipush (v := 6) C dX3_bestOf_61 rfl ?_
          refine gj_iload_n C dX3_bestOf_63 1 rfl ?_
          refine gj_imul C dX3_bestOf_64 ?_
          refine gj_iload_n C dX3_bestOf_65 3 rfl ?_
          refine gj_iadd C dX3_bestOf_66 ?_
          obtain ⟨h10, hw⟩ := hw
          refine gt_iald C hW (by decide) h10 dX3_bestOf_67 ?_
          refine gj_icmp_le (tgt := 74) C dX3_bestOf_68 rfl (fun c11 => ?_) (fun c11 => ?_)
          · have hw := it_t hw c11
            obtain ⟨x12, ex12⟩ : ∃ x12 : Int32, x12 = v4 + 1 := ⟨_, rfl⟩
            have hw := hw x12 ex12
            refine gj_iinc (lc' := [(4, .int x12), (0, rv (t + 1)), (1, .int p1), (2, .int p2), (3, .int v3)]) (w := 1) (v := x12) C dX3_bestOf_74 4 rfl rfl ex12.symm (Nat.le_of_ble_eq_true rfl) rfl ?_
            refine gj_goto (tgt := 5) C dX3_bestOf_77 rfl ?_
            refine gj_sub (lc' := [(0, rv (t + 1)), (1, .int p1), (2, .int p2), (3, .int v3), (4, .int x12)]) [1, 2, 3, 4, 0] rfl ?_
            exact hX5 _ _ _ _ hw
          · have hw := it_f hw c11
            refine gj_iload C dX3_bestOf_71 4 rfl ?_
            refine gj_istore_n (lc' := [(3, .int v4), (0, rv (t + 1)), (1, .int p1), (2, .int p2), (4, .int v4)]) C dX3_bestOf_73 (Nat.le_of_ble_eq_true rfl) rfl ?_
            obtain ⟨x13, ex13⟩ : ∃ x13 : Int32, x13 = v4 + 1 := ⟨_, rfl⟩
            have hw := hw x13 ex13
            refine gj_iinc (lc' := [(4, .int x13), (3, .int v4), (0, rv (t + 1)), (1, .int p1), (2, .int p2)]) (w := 1) (v := x13) C dX3_bestOf_74 4 rfl rfl ex13.symm (Nat.le_of_ble_eq_true rfl) rfl ?_
            refine gj_goto (tgt := 5) C dX3_bestOf_77 rfl ?_
            refine gj_sub (lc' := [(0, rv (t + 1)), (1, .int p1), (2, .int p2), (3, .int v4), (4, .int x13)]) [2, 3, 4, 1, 0] rfl ?_
            exact hX5 _ _ _ _ hw
      · have hw := it_t hw c6
        refine gj_goto (tgt := 74) C dX3_bestOf_37 rfl ?_
        obtain ⟨x14, ex14⟩ : ∃ x14 : Int32, x14 = v4 + 1 := ⟨_, rfl⟩
        have hw := hw x14 ex14
        refine gj_iinc (lc' := [(4, .int x14), (0, rv (t + 1)), (1, .int p1), (2, .int p2), (3, .int v3)]) (w := 1) (v := x14) C dX3_bestOf_74 4 rfl rfl ex14.symm (Nat.le_of_ble_eq_true rfl) rfl ?_
        refine gj_goto (tgt := 5) C dX3_bestOf_77 rfl ?_
        refine gj_sub (lc' := [(0, rv (t + 1)), (1, .int p1), (2, .int p2), (3, .int v3), (4, .int x14)]) [1, 2, 3, 4, 0] rfl ?_
        exact hX5 _ _ _ _ hw

theorem wq_X3_bestOf_5 {g : Gm} {d : TD} {t : Nat} (B : BdT g d prog_11_method_75_code 5 (some .int) 0 0) (p1 : Int32) (p2 : Int32) (Φ : Int32 → (Nat → Nat → Int32) → Int64 → Prop) (v3 : Int32) (v4 : Int32) (J : Nat → Nat → Int32) (lw : Int64) (hw : wl_X3_bestOf_5 p1 p2 Φ v3 v4 J lw) : GJ g 5 (TP d t J lw (gs g).heap) 0 (TQ g d t (ansI Φ)) 5 [(0, rv (t + 1)), (1, .int p1), (2, .int p2), (3, .int v3), (4, .int v4)] [] :=
  hw (fun v3 v4 J lw => GJ g 5 (TP d t J lw (gs g).heap) 0 (TQ g d t (ansI Φ)) 5 [(0, rv (t + 1)), (1, .int p1), (2, .int p2), (3, .int v3), (4, .int v4)] []) (fun v3 v4 J lw h => wk_X3_bestOf_5 B p1 p2 Φ (fun v3 v4 J lw => GJ g 5 (TP d t J lw (gs g).heap) 0 (TQ g d t (ansI Φ)) 5 [(0, rv (t + 1)), (1, .int p1), (2, .int p2), (3, .int v3), (4, .int v4)] []) (fun v3 v4 J lw h => h) v3 v4 J lw h)
def wp_X3_bestOf (p1 : Int32) (p2 : Int32) (Φ : Int32 → (Nat → Nat → Int32) → Int64 → Prop) (J : Nat → Nat → Int32) (lw : Int64) : Prop :=
wl_X3_bestOf_5 p1 p2 Φ (-1) 0 J lw
theorem wk_X3_bestOf {g : Gm} {d : TD} {t : Nat} (B : BdT g d prog_11_method_75_code 5 (some .int) 0 0) (p1 : Int32) (p2 : Int32) (Φ : Int32 → (Nat → Nat → Int32) → Int64 → Prop) (J : Nat → Nat → Int32) (lw : Int64) (hw : wp_X3_bestOf p1 p2 Φ J lw) : GJ g 5 (TP d t J lw (gs g).heap) 0 (TQ g d t (ansI Φ)) 0 [(0, rv (t + 1)), (1, .int p1), (2, .int p2)] [] := by
  unfold wp_X3_bestOf at hw
  have C := B.1
  have hW := B.2.1
  refine gj_iconst (v := (-1)) C dX3_bestOf_0 rfl ?_
  refine gj_istore_n (lc' := [(3, .int (-1)), (0, rv (t + 1)), (1, .int p1), (2, .int p2)]) C dX3_bestOf_1 (Nat.le_of_ble_eq_true rfl) rfl ?_
  refine gj_iconst (v := 0) C dX3_bestOf_2 rfl ?_
  refine gj_istore (lc' := [(4, .int 0), (3, .int (-1)), (0, rv (t + 1)), (1, .int p1), (2, .int p2)]) C dX3_bestOf_3 (Nat.le_of_ble_eq_true rfl) rfl ?_
  refine gj_sub (lc' := [(0, rv (t + 1)), (1, .int p1), (2, .int p2), (3, .int (-1)), (4, .int 0)]) [2, 3, 4, 1, 0] rfl ?_
  exact wq_X3_bestOf_5 B _ _ _ _ _ _ _ hw

theorem met_X3_bestOf (l : Launch) {d : TD} {t : Nat} {J : Nat → Nat → Int32} {lw : Int64} {p1 : Int32} {p2 : Int32} {Φ : Int32 → (Nat → Nat → Int32) → Int64 → Prop} (hw : wp_X3_bestOf p1 p2 Φ J lw) : MetT l yX3_bestOf prog_11_method_75_code 5 (some .int) 0 0 [.ref t, .int p1, .int p2] d t J lw (ansI Φ) :=
  mt_of (by decide +kernel) rfl (Nat.le_of_ble_eq_true rfl) (fun g _ B => wk_X3_bestOf B _ _ _ J lw hw)
theorem tc_X3_bestOf {g : Gm} {d : TD} {t : Nat} {cc : ByteArray} {nL : Nat} {ret : Option FieldType} {fr lo : Nat} (B : BdT g d cc nL ret fr lo) {J : Nat → Nat → Int32} {lw : Int64} {H0 : Heap} {Q : State → Prop} {pc : Nat} {lc : List (Nat × Value)} {rest : List Value} {p1 : Int32} {p2 : Int32} {Φ : Int32 → (Nat → Nat → Int32) → Int64 → Prop} (hw : wp_X3_bestOf p1 p2 Φ J lw) (hf : 1 ≤ fr) (hlo : 24 ≤ lo) (hrest : (rest.map fun v => v.category).sum ≤ 8) (dg : decode cc pc = .ok (.invokevirtual 374, 3)) (k : ∀ (r : Int32) J' lw', Φ r J' lw' → GJ g nL (TP d t J' lw' H0) 0 Q (pc + 3) lc (.int r :: rest)) : GJ g nL (TP d t J lw H0) 0 Q pc lc (.int p2 :: .int p1 :: rv (t + 1) :: rest) :=
  gt_callV (n := 2) (As := [.int p1, .int p2]) B (met_X3_bestOf g.2.1 hw) (lw_V q1695 q1697 qs81 q97 q1698) ⟨rfl, by decide +kernel, by decide +kernel, by decide +kernel⟩ rfl hf hlo ⟨Nat.zero_le _, Nat.zero_le _⟩ rfl hrest dg (fun v J' lw' hp => by obtain ⟨r, rfl, hp⟩ := hp; exact k r J' lw' hp)
/-! all(I)I -/
def wf_X3_all_4 (p1 : Int32) (Φ : Int32 → (Nat → Nat → Int32) → Int64 → Prop) (X4 : Int32 → Int32 → (Nat → Nat → Int32) → Int64 → Prop) (v2 : Int32) (v3 : Int32) (J : Nat → Nat → Int32) (lw : Int64) : Prop :=
(if (J 0 1) ≤ v3 then Φ v2 J lw else (wp_X3_bestOf v3 p1 (fun r4 J2 l3 => (if r4 = (-1) then (∀ x9 : Int32, x9 = (v2 + 0) → (∀ x10 : Int32, x10 = v3 + 1 → X4 x9 x10 J2 l3)) else (vp_in ((6 * v3) + r4) (tln 48) ∧ (∀ x7 : Int32, x7 = (v2 + (J2 48 (Int32.toNatClampNeg ((6 * v3) + r4)))) → (∀ x8 : Int32, x8 = v3 + 1 → X4 x7 x8 J2 l3))))) J lw))
def wl_X3_all_4 (p1 : Int32) (Φ : Int32 → (Nat → Nat → Int32) → Int64 → Prop) (v2 : Int32) (v3 : Int32) (J : Nat → Nat → Int32) (lw : Int64) : Prop := ∀ X4 : Int32 → Int32 → (Nat → Nat → Int32) → Int64 → Prop, (∀ v2 v3 J lw, wf_X3_all_4 p1 Φ X4 v2 v3 J lw → X4 v2 v3 J lw) → X4 v2 v3 J lw
theorem wk_X3_all_4 {g : Gm} {d : TD} {t : Nat} (B : BdT g d prog_11_method_76_code 5 (some .int) 1 24) (p1 : Int32) (Φ : Int32 → (Nat → Nat → Int32) → Int64 → Prop) (X4 : Int32 → Int32 → (Nat → Nat → Int32) → Int64 → Prop) (hX4 : ∀ v2 v3 J lw, X4 v2 v3 J lw → GJ g 5 (TP d t J lw (gs g).heap) 0 (TQ g d t (ansI Φ)) 4 [(0, rv (t + 1)), (1, .int p1), (2, .int v2), (3, .int v3)] []) (v2 : Int32) (v3 : Int32) (J : Nat → Nat → Int32) (lw : Int64) (hw : wf_X3_all_4 p1 Φ X4 v2 v3 J lw) : GJ g 5 (TP d t J lw (gs g).heap) 0 (TQ g d t (ansI Φ)) 4 [(0, rv (t + 1)), (1, .int p1), (2, .int v2), (3, .int v3)] [] := by
  unfold wf_X3_all_4 at hw
  have C := B.1
  have hW := B.2.1
  refine gj_iload_n C dX3_all_4 3 rfl ?_
  refine gj_aload_n C dX3_all_5 0 rfl ?_
  refine tg248 C hW dX3_all_6 ?_
  refine gj_icmp_ge (tgt := 51) C dX3_all_9 rfl (fun c1 => ?_) (fun c1 => ?_)
  · have hw := it_t hw c1
    refine gj_iload_n C dX3_all_51 2 rfl ?_
    exact gt_iret B hw dX3_all_52
  · have hw := it_f hw c1
    refine gj_aload_n C dX3_all_12 0 rfl ?_
    refine gj_iload_n C dX3_all_13 3 rfl ?_
    refine gj_iload_n C dX3_all_14 1 rfl ?_
    refine tc_X3_bestOf B hw (Nat.le_of_ble_eq_true rfl) (Nat.le_of_ble_eq_true rfl) (Nat.le_of_ble_eq_true rfl) dX3_all_15 (fun r4 J2 l3 hw => ?_)
    refine gj_istore (lc' := [(4, .int r4), (0, rv (t + 1)), (1, .int p1), (2, .int v2), (3, .int v3)]) C dX3_all_18 (Nat.le_of_ble_eq_true rfl) rfl ?_
    refine gj_iload_n C dX3_all_20 3 rfl ?_
    refine gj_iload C dX3_all_21 0 rfl ?_
    refine gj_iconst (v := (-1)) C dX3_all_23 rfl ?_
    refine gj_icmp_ne (tgt := 31) C dX3_all_24 rfl (fun c5 => ?_) (fun c5 => ?_)
    · have hw := it_f hw c5
      refine gj_aload_n C dX3_all_31 1 rfl ?_
      refine tg89 C hW dX3_all_32 ?_
      refine gj_bipush (v := 6) C dX3_all_35 rfl ?_
      refine gj_iload_n C dX3_all_37 4 rfl ?_
      refine gj_imul C dX3_all_38 ?_
      refine gj_iload C dX3_all_39 0 rfl ?_
      refine gj_iadd C dX3_all_41 ?_
      obtain ⟨h6, hw⟩ := hw
      refine gt_iald C hW (by decide) h6 dX3_all_42 ?_
      refine gj_iadd C dX3_all_43 ?_
      refine gj_topi (fun x7 ex7 => ?_)
      have hw := hw x7 ex7
      refine gj_istore_n (lc' := [(2, .int x7), (4, .int r4), (0, rv (t + 1)), (1, .int p1), (3, .int v3)]) C dX3_all_44 (Nat.le_of_ble_eq_true rfl) rfl ?_
      obtain ⟨x8, ex8⟩ : ∃ x8 : Int32, x8 = v3 + 1 := ⟨_, rfl⟩
      have hw := hw x8 ex8
      refine gj_iinc (lc' := [(3, .int x8), (2, .int x7), (4, .int r4), (0, rv (t + 1)), (1, .int p1)]) (w := 1) (v := x8) C dX3_all_45 4 rfl rfl ex8.symm (Nat.le_of_ble_eq_true rfl) rfl ?_
      refine gj_goto (tgt := 4) C dX3_all_48 rfl ?_
      refine gj_sub (lc' := [(0, rv (t + 1)), (1, .int p1), (2, .int x7), (3, .int x8)]) [3, 4, 1, 0] rfl ?_
      exact hX4 _ _ _ _ hw
    · have hw := it_t hw c5
      refine gj_iconst (v := 0) C dX3_all_27 rfl ?_
      refine gj_goto (tgt := 43) C dX3_all_28 rfl ?_
      refine gj_iadd C dX3_all_43 ?_
      refine gj_topi (fun x9 ex9 => ?_)
      have hw := hw x9 ex9
      refine gj_istore_n (lc' := [(2, .int x9), (4, .int r4), (0, rv (t + 1)), (1, .int p1), (3, .int v3)]) C dX3_all_44 (Nat.le_of_ble_eq_true rfl) rfl ?_
      obtain ⟨x10, ex10⟩ : ∃ x10 : Int32, x10 = v3 + 1 := ⟨_, rfl⟩
      have hw := hw x10 ex10
      refine gj_iinc (lc' := [(3, .int x10), (2, .int x9), (4, .int r4), (0, rv (t + 1)), (1, .int p1)]) (w := 1) (v := x10) C dX3_all_45 4 rfl rfl ex10.symm (Nat.le_of_ble_eq_true rfl) rfl ?_
      refine gj_goto (tgt := 4) C dX3_all_48 rfl ?_
      refine gj_sub (lc' := [(0, rv (t + 1)), (1, .int p1), (2, .int x9), (3, .int x10)]) [3, 4, 1, 0] rfl ?_
      exact hX4 _ _ _ _ hw

theorem wq_X3_all_4 {g : Gm} {d : TD} {t : Nat} (B : BdT g d prog_11_method_76_code 5 (some .int) 1 24) (p1 : Int32) (Φ : Int32 → (Nat → Nat → Int32) → Int64 → Prop) (v2 : Int32) (v3 : Int32) (J : Nat → Nat → Int32) (lw : Int64) (hw : wl_X3_all_4 p1 Φ v2 v3 J lw) : GJ g 5 (TP d t J lw (gs g).heap) 0 (TQ g d t (ansI Φ)) 4 [(0, rv (t + 1)), (1, .int p1), (2, .int v2), (3, .int v3)] [] :=
  hw (fun v2 v3 J lw => GJ g 5 (TP d t J lw (gs g).heap) 0 (TQ g d t (ansI Φ)) 4 [(0, rv (t + 1)), (1, .int p1), (2, .int v2), (3, .int v3)] []) (fun v2 v3 J lw h => wk_X3_all_4 B p1 Φ (fun v2 v3 J lw => GJ g 5 (TP d t J lw (gs g).heap) 0 (TQ g d t (ansI Φ)) 4 [(0, rv (t + 1)), (1, .int p1), (2, .int v2), (3, .int v3)] []) (fun v2 v3 J lw h => h) v2 v3 J lw h)
def wp_X3_all (p1 : Int32) (Φ : Int32 → (Nat → Nat → Int32) → Int64 → Prop) (J : Nat → Nat → Int32) (lw : Int64) : Prop :=
wl_X3_all_4 p1 Φ 0 0 J lw
theorem wk_X3_all {g : Gm} {d : TD} {t : Nat} (B : BdT g d prog_11_method_76_code 5 (some .int) 1 24) (p1 : Int32) (Φ : Int32 → (Nat → Nat → Int32) → Int64 → Prop) (J : Nat → Nat → Int32) (lw : Int64) (hw : wp_X3_all p1 Φ J lw) : GJ g 5 (TP d t J lw (gs g).heap) 0 (TQ g d t (ansI Φ)) 0 [(0, rv (t + 1)), (1, .int p1)] [] := by
  unfold wp_X3_all at hw
  have C := B.1
  have hW := B.2.1
  refine gj_iconst (v := 0) C dX3_all_0 rfl ?_
  refine gj_istore_n (lc' := [(2, .int 0), (0, rv (t + 1)), (1, .int p1)]) C dX3_all_1 (Nat.le_of_ble_eq_true rfl) rfl ?_
  refine gj_iconst (v := 0) C dX3_all_2 rfl ?_
  refine gj_istore_n (lc' := [(3, .int 0), (2, .int 0), (0, rv (t + 1)), (1, .int p1)]) C dX3_all_3 (Nat.le_of_ble_eq_true rfl) rfl ?_
  refine gj_sub (lc' := [(0, rv (t + 1)), (1, .int p1), (2, .int 0), (3, .int 0)]) [2, 3, 1, 0] rfl ?_
  exact wq_X3_all_4 B _ _ _ _ _ _ hw

theorem met_X3_all (l : Launch) {d : TD} {t : Nat} {J : Nat → Nat → Int32} {lw : Int64} {p1 : Int32} {Φ : Int32 → (Nat → Nat → Int32) → Int64 → Prop} (hw : wp_X3_all p1 Φ J lw) : MetT l yX3_all prog_11_method_76_code 5 (some .int) 1 24 [.ref t, .int p1] d t J lw (ansI Φ) :=
  mt_of (by decide +kernel) rfl (Nat.le_of_ble_eq_true rfl) (fun g _ B => wk_X3_all B _ _ J lw hw)
theorem tc_X3_all {g : Gm} {d : TD} {t : Nat} {cc : ByteArray} {nL : Nat} {ret : Option FieldType} {fr lo : Nat} (B : BdT g d cc nL ret fr lo) {J : Nat → Nat → Int32} {lw : Int64} {H0 : Heap} {Q : State → Prop} {pc : Nat} {lc : List (Nat × Value)} {rest : List Value} {p1 : Int32} {Φ : Int32 → (Nat → Nat → Int32) → Int64 → Prop} (hw : wp_X3_all p1 Φ J lw) (hf : 2 ≤ fr) (hlo : 48 ≤ lo) (hrest : (rest.map fun v => v.category).sum ≤ 8) (dg : decode cc pc = .ok (.invokevirtual 377, 3)) (k : ∀ (r : Int32) J' lw', Φ r J' lw' → GJ g nL (TP d t J' lw' H0) 0 Q (pc + 3) lc (.int r :: rest)) : GJ g nL (TP d t J lw H0) 0 Q pc lc (.int p1 :: rv (t + 1) :: rest) :=
  gt_callV (n := 1) (As := [.int p1]) B (met_X3_all g.2.1 hw) (lw_V q1691 q1693 qs80 q97 q1694) ⟨rfl, by decide +kernel, by decide +kernel, by decide +kernel⟩ rfl hf hlo ⟨Nat.zero_le _, Nat.zero_le _⟩ rfl hrest dg (fun v J' lw' hp => by obtain ⟨r, rfl, hp⟩ := hp; exact k r J' lw' hp)
/-! turnsPath(I)Z -/
def wj_X3_turnsPath_112 (p1 : Int32) (Φ : Int32 → (Nat → Nat → Int32) → Int64 → Prop) (X73 : Int32 → (Nat → Nat → Int32) → Int64 → Prop) (v4 : Int32) (s0 : Int32) (s1 : Int32) (J : Nat → Nat → Int32) (lw : Int64) : Prop :=
(vp_in s1 (tln 49) ∧ (∀ J15 : Nat → Nat → Int32, J15 = u2 J 49 (Int32.toNatClampNeg s1) s0 → (∀ x16 : Int32, x16 = v4 + 1 → X73 x16 J15 lw)))
theorem wq_X3_turnsPath_112 {g : Gm} {d : TD} {t : Nat} (B : BdT g d prog_11_method_77_code 5 (some .boolean) 0 0) (p1 : Int32) (Φ : Int32 → (Nat → Nat → Int32) → Int64 → Prop) (X73 : Int32 → (Nat → Nat → Int32) → Int64 → Prop) (hX73 : ∀ v4 J lw, X73 v4 J lw → GJ g 5 (TP d t J lw (gs g).heap) 0 (TQ g d t (ansZ Φ)) 73 [(0, rv (t + 1)), (1, .int p1), (4, .int v4)] []) (v4 : Int32) (s0 : Int32) (s1 : Int32) (J : Nat → Nat → Int32) (lw : Int64) (hw : wj_X3_turnsPath_112 p1 Φ X73 v4 s0 s1 J lw) : GJ g 5 (TP d t J lw (gs g).heap) 0 (TQ g d t (ansZ Φ)) 112 [(0, rv (t + 1)), (1, .int p1), (4, .int v4)] [.int s0, .int s1, rv (ta t 49)] := by
  unfold wj_X3_turnsPath_112 at hw
  have C := B.1
  have hW := B.2.1
  obtain ⟨h14, hw⟩ := hw
  refine gt_iast C hW (by decide) h14 dX3_turnsPath_112 ?_
  refine gt_nmJ (fun J15 eJ15 => ?_)
  have hw := hw J15 eJ15
  obtain ⟨x16, ex16⟩ : ∃ x16 : Int32, x16 = v4 + 1 := ⟨_, rfl⟩
  have hw := hw x16 ex16
  refine gj_iinc (lc' := [(4, .int x16), (0, rv (t + 1)), (1, .int p1)]) (w := 1) (v := x16) C dX3_turnsPath_113 2 rfl rfl ex16.symm (Nat.le_of_ble_eq_true rfl) rfl ?_
  refine gj_goto (tgt := 73) C dX3_turnsPath_116 rfl ?_
  refine gj_sub (lc' := [(0, rv (t + 1)), (1, .int p1), (4, .int x16)]) [1, 2, 0] rfl ?_
  exact hX73 _ _ _ hw

def wf_X3_turnsPath_73 (p1 : Int32) (Φ : Int32 → (Nat → Nat → Int32) → Int64 → Prop) (X73 : Int32 → (Nat → Nat → Int32) → Int64 → Prop) (v4 : Int32) (J : Nat → Nat → Int32) (lw : Int64) : Prop :=
(if p1 ≤ v4 then Φ 1 J lw else (vp_in (v4 - 1) (tln 49) ∧ (if (J 49 (Int32.toNatClampNeg (v4 - 1))) ≤ 0 then wj_X3_turnsPath_112 p1 Φ X73 v4 0 v4 J lw else (vp_in (v4 - 1) (tln 49) ∧ wj_X3_turnsPath_112 p1 Φ X73 v4 ((J 49 (Int32.toNatClampNeg (v4 - 1))) - 1) v4 J lw))))
def wl_X3_turnsPath_73 (p1 : Int32) (Φ : Int32 → (Nat → Nat → Int32) → Int64 → Prop) (v4 : Int32) (J : Nat → Nat → Int32) (lw : Int64) : Prop := ∀ X73 : Int32 → (Nat → Nat → Int32) → Int64 → Prop, (∀ v4 J lw, wf_X3_turnsPath_73 p1 Φ X73 v4 J lw → X73 v4 J lw) → X73 v4 J lw
theorem wk_X3_turnsPath_73 {g : Gm} {d : TD} {t : Nat} (B : BdT g d prog_11_method_77_code 5 (some .boolean) 0 0) (p1 : Int32) (Φ : Int32 → (Nat → Nat → Int32) → Int64 → Prop) (X73 : Int32 → (Nat → Nat → Int32) → Int64 → Prop) (hX73 : ∀ v4 J lw, X73 v4 J lw → GJ g 5 (TP d t J lw (gs g).heap) 0 (TQ g d t (ansZ Φ)) 73 [(0, rv (t + 1)), (1, .int p1), (4, .int v4)] []) (v4 : Int32) (J : Nat → Nat → Int32) (lw : Int64) (hw : wf_X3_turnsPath_73 p1 Φ X73 v4 J lw) : GJ g 5 (TP d t J lw (gs g).heap) 0 (TQ g d t (ansZ Φ)) 73 [(0, rv (t + 1)), (1, .int p1), (4, .int v4)] [] := by
  unfold wf_X3_turnsPath_73 at hw
  have C := B.1
  have hW := B.2.1
  refine gj_iload C dX3_turnsPath_73 2 rfl ?_
  refine gj_iload_n C dX3_turnsPath_75 1 rfl ?_
  refine gj_icmp_ge (tgt := 119) C dX3_turnsPath_76 rfl (fun c11 => ?_) (fun c11 => ?_)
  · have hw := it_t hw c11
    refine gj_iconst (v := 1) C dX3_turnsPath_119 rfl ?_
    exact gt_zret B (Or.inr rfl) hw dX3_turnsPath_120
  · have hw := it_f hw c11
    refine gj_aload_n C dX3_turnsPath_79 0 rfl ?_
    refine tg92 C hW dX3_turnsPath_80 ?_
    refine gj_iload C dX3_turnsPath_83 2 rfl ?_
    refine gj_aload_n C dX3_turnsPath_85 0 rfl ?_
    refine tg92 C hW dX3_turnsPath_86 ?_
    refine gj_iload C dX3_turnsPath_89 2 rfl ?_
    refine gj_iconst (v := 1) C dX3_turnsPath_91 rfl ?_
    refine gj_isub C dX3_turnsPath_92 ?_
    obtain ⟨h12, hw⟩ := hw
    refine gt_iald C hW (by decide) h12 dX3_turnsPath_93 ?_
    refine gj_if_le (tgt := 111) C dX3_turnsPath_94 rfl (fun c13 => ?_) (fun c13 => ?_)
    · have hw := it_t hw c13
      refine gj_iconst (v := 0) C dX3_turnsPath_111 rfl ?_
      exact wq_X3_turnsPath_112 B _ _ _ hX73 _ _ _ _ _ hw
    · have hw := it_f hw c13
      refine gj_aload_n C dX3_turnsPath_97 0 rfl ?_
      refine tg92 C hW dX3_turnsPath_98 ?_
      refine gj_iload C dX3_turnsPath_101 2 rfl ?_
      refine gj_iconst (v := 1) C dX3_turnsPath_103 rfl ?_
      refine gj_isub C dX3_turnsPath_104 ?_
      obtain ⟨h17, hw⟩ := hw
      refine gt_iald C hW (by decide) h17 dX3_turnsPath_105 ?_
      refine gj_iconst (v := 1) C dX3_turnsPath_106 rfl ?_
      refine gj_isub C dX3_turnsPath_107 ?_
      refine gj_goto (tgt := 112) C dX3_turnsPath_108 rfl ?_
      exact wq_X3_turnsPath_112 B _ _ _ hX73 _ _ _ _ _ hw

theorem wq_X3_turnsPath_73 {g : Gm} {d : TD} {t : Nat} (B : BdT g d prog_11_method_77_code 5 (some .boolean) 0 0) (p1 : Int32) (Φ : Int32 → (Nat → Nat → Int32) → Int64 → Prop) (v4 : Int32) (J : Nat → Nat → Int32) (lw : Int64) (hw : wl_X3_turnsPath_73 p1 Φ v4 J lw) : GJ g 5 (TP d t J lw (gs g).heap) 0 (TQ g d t (ansZ Φ)) 73 [(0, rv (t + 1)), (1, .int p1), (4, .int v4)] [] :=
  hw (fun v4 J lw => GJ g 5 (TP d t J lw (gs g).heap) 0 (TQ g d t (ansZ Φ)) 73 [(0, rv (t + 1)), (1, .int p1), (4, .int v4)] []) (fun v4 J lw h => wk_X3_turnsPath_73 B p1 Φ (fun v4 J lw => GJ g 5 (TP d t J lw (gs g).heap) 0 (TQ g d t (ansZ Φ)) 73 [(0, rv (t + 1)), (1, .int p1), (4, .int v4)] []) (fun v4 J lw h => h) v4 J lw h)
def wj_X3_turnsPath_44 (p1 : Int32) (Φ : Int32 → (Nat → Nat → Int32) → Int64 → Prop) (X4 : Int32 → (Nat → Nat → Int32) → Int64 → Prop) (v2 : Int32) (s0 : Int32) (J : Nat → Nat → Int32) (lw : Int64) : Prop :=
(vp_in v2 (tln 49) ∧ (if (J 49 (Int32.toNatClampNeg v2)) = s0 then (∀ x18 : Int32, x18 = v2 + (-1) → X4 x18 J lw) else (vp_in v2 (tln 49) ∧ (vp_in v2 (tln 49) ∧ (∀ J9 : Nat → Nat → Int32, J9 = u2 J 49 (Int32.toNatClampNeg v2) ((J 49 (Int32.toNatClampNeg v2)) + 1) → (∀ x10 : Int32, x10 = (v2 + 1) → wl_X3_turnsPath_73 p1 Φ x10 J9 lw))))))
theorem wq_X3_turnsPath_44 {g : Gm} {d : TD} {t : Nat} (B : BdT g d prog_11_method_77_code 5 (some .boolean) 0 0) (p1 : Int32) (Φ : Int32 → (Nat → Nat → Int32) → Int64 → Prop) (X4 : Int32 → (Nat → Nat → Int32) → Int64 → Prop) (hX4 : ∀ v2 J lw, X4 v2 J lw → GJ g 5 (TP d t J lw (gs g).heap) 0 (TQ g d t (ansZ Φ)) 4 [(0, rv (t + 1)), (1, .int p1), (2, .int v2)] []) (v2 : Int32) (s0 : Int32) (J : Nat → Nat → Int32) (lw : Int64) (hw : wj_X3_turnsPath_44 p1 Φ X4 v2 s0 J lw) : GJ g 5 (TP d t J lw (gs g).heap) 0 (TQ g d t (ansZ Φ)) 44 [(0, rv (t + 1)), (1, .int p1), (2, .int v2)] [.int s0] := by
  unfold wj_X3_turnsPath_44 at hw
  have C := B.1
  have hW := B.2.1
  refine gj_istore_n (lc' := [(3, .int s0), (0, rv (t + 1)), (1, .int p1), (2, .int v2)]) C dX3_turnsPath_44 (Nat.le_of_ble_eq_true rfl) rfl ?_
  refine gj_aload_n C dX3_turnsPath_45 1 rfl ?_
  refine tg92 C hW dX3_turnsPath_46 ?_
  refine gj_iload_n C dX3_turnsPath_49 3 rfl ?_
  obtain ⟨h5, hw⟩ := hw
  refine gt_iald C hW (by decide) h5 dX3_turnsPath_50 ?_
  refine gj_iload_n C dX3_turnsPath_51 0 rfl ?_
  refine gj_icmp_ne (tgt := 58) C dX3_turnsPath_52 rfl (fun c6 => ?_) (fun c6 => ?_)
  · have hw := it_f hw c6
    refine gj_aload_n C dX3_turnsPath_58 1 rfl ?_
    refine tg92 C hW dX3_turnsPath_59 ?_
    refine gj_iload_n C dX3_turnsPath_62 3 rfl ?_
    refine gj_dup2_11 C dX3_turnsPath_63 rfl (rv_cat _) ?_
    obtain ⟨h7, hw⟩ := hw
    refine gt_iald C hW (by decide) h7 dX3_turnsPath_64 ?_
    refine gj_iconst (v := 1) C dX3_turnsPath_65 rfl ?_
    refine gj_iadd C dX3_turnsPath_66 ?_
    obtain ⟨h8, hw⟩ := hw
    refine gt_iast C hW (by decide) h8 dX3_turnsPath_67 ?_
    refine gt_nmJ (fun J9 eJ9 => ?_)
    have hw := hw J9 eJ9
    refine gj_iload_n C dX3_turnsPath_68 3 rfl ?_
    refine gj_iconst (v := 1) C dX3_turnsPath_69 rfl ?_
    refine gj_iadd C dX3_turnsPath_70 ?_
    refine gj_topi (fun x10 ex10 => ?_)
    have hw := hw x10 ex10
    refine gj_istore (lc' := [(4, .int x10), (3, .int s0), (0, rv (t + 1)), (1, .int p1), (2, .int v2)]) C dX3_turnsPath_71 (Nat.le_of_ble_eq_true rfl) rfl ?_
    refine gj_sub (lc' := [(0, rv (t + 1)), (1, .int p1), (4, .int x10)]) [2, 3, 0] rfl ?_
    exact wq_X3_turnsPath_73 B _ _ _ _ _ hw
  · have hw := it_t hw c6
    refine gj_goto (tgt := 121) C dX3_turnsPath_55 rfl ?_
    obtain ⟨x18, ex18⟩ : ∃ x18 : Int32, x18 = v2 + (-1) := ⟨_, rfl⟩
    have hw := hw x18 ex18
    refine gj_iinc (lc' := [(2, .int x18), (3, .int s0), (0, rv (t + 1)), (1, .int p1)]) (w := (-1)) (v := x18) C dX3_turnsPath_121 3 rfl rfl ex18.symm (Nat.le_of_ble_eq_true rfl) rfl ?_
    refine gj_goto (tgt := 4) C dX3_turnsPath_124 rfl ?_
    refine gj_sub (lc' := [(0, rv (t + 1)), (1, .int p1), (2, .int x18)]) [2, 3, 0] rfl ?_
    exact hX4 _ _ _ hw

def wf_X3_turnsPath_4 (p1 : Int32) (Φ : Int32 → (Nat → Nat → Int32) → Int64 → Prop) (X4 : Int32 → (Nat → Nat → Int32) → Int64 → Prop) (v2 : Int32) (J : Nat → Nat → Int32) (lw : Int64) : Prop :=
(if v2 ≤ 0 then Φ 0 J lw else (vp_in (v2 - 1) (tln 49) ∧ (if (J 0 1) ≤ ((J 49 (Int32.toNatClampNeg (v2 - 1))) + 1) then wj_X3_turnsPath_44 p1 Φ X4 v2 ((J 0 1) - 1) J lw else (vp_in (v2 - 1) (tln 49) ∧ wj_X3_turnsPath_44 p1 Φ X4 v2 ((J 49 (Int32.toNatClampNeg (v2 - 1))) + 1) J lw))))
def wl_X3_turnsPath_4 (p1 : Int32) (Φ : Int32 → (Nat → Nat → Int32) → Int64 → Prop) (v2 : Int32) (J : Nat → Nat → Int32) (lw : Int64) : Prop := ∀ X4 : Int32 → (Nat → Nat → Int32) → Int64 → Prop, (∀ v2 J lw, wf_X3_turnsPath_4 p1 Φ X4 v2 J lw → X4 v2 J lw) → X4 v2 J lw
theorem wk_X3_turnsPath_4 {g : Gm} {d : TD} {t : Nat} (B : BdT g d prog_11_method_77_code 5 (some .boolean) 0 0) (p1 : Int32) (Φ : Int32 → (Nat → Nat → Int32) → Int64 → Prop) (X4 : Int32 → (Nat → Nat → Int32) → Int64 → Prop) (hX4 : ∀ v2 J lw, X4 v2 J lw → GJ g 5 (TP d t J lw (gs g).heap) 0 (TQ g d t (ansZ Φ)) 4 [(0, rv (t + 1)), (1, .int p1), (2, .int v2)] []) (v2 : Int32) (J : Nat → Nat → Int32) (lw : Int64) (hw : wf_X3_turnsPath_4 p1 Φ X4 v2 J lw) : GJ g 5 (TP d t J lw (gs g).heap) 0 (TQ g d t (ansZ Φ)) 4 [(0, rv (t + 1)), (1, .int p1), (2, .int v2)] [] := by
  unfold wf_X3_turnsPath_4 at hw
  have C := B.1
  have hW := B.2.1
  refine gj_iload_n C dX3_turnsPath_4 2 rfl ?_
  refine gj_if_le (tgt := 127) C dX3_turnsPath_5 rfl (fun c2 => ?_) (fun c2 => ?_)
  · have hw := it_t hw c2
    refine gj_iconst (v := 0) C dX3_turnsPath_127 rfl ?_
    exact gt_zret B (Or.inl rfl) hw dX3_turnsPath_128
  · have hw := it_f hw c2
    refine gj_aload_n C dX3_turnsPath_8 0 rfl ?_
    refine tg92 C hW dX3_turnsPath_9 ?_
    refine gj_iload_n C dX3_turnsPath_12 2 rfl ?_
    refine gj_iconst (v := 1) C dX3_turnsPath_13 rfl ?_
    refine gj_isub C dX3_turnsPath_14 ?_
    obtain ⟨h3, hw⟩ := hw
    refine gt_iald C hW (by decide) h3 dX3_turnsPath_15 ?_
    refine gj_iconst (v := 1) C dX3_turnsPath_16 rfl ?_
    refine gj_iadd C dX3_turnsPath_17 ?_
    refine gj_aload_n C dX3_turnsPath_18 0 rfl ?_
    refine tg248 C hW dX3_turnsPath_19 ?_
    refine gj_icmp_ge (tgt := 38) C dX3_turnsPath_22 rfl (fun c4 => ?_) (fun c4 => ?_)
    · have hw := it_t hw c4
      refine gj_aload_n C dX3_turnsPath_38 0 rfl ?_
      refine tg248 C hW dX3_turnsPath_39 ?_
      refine gj_iconst (v := 1) C dX3_turnsPath_42 rfl ?_
      refine gj_isub C dX3_turnsPath_43 ?_
      exact wq_X3_turnsPath_44 B _ _ _ hX4 _ _ _ _ hw
    · have hw := it_f hw c4
      refine gj_aload_n C dX3_turnsPath_25 0 rfl ?_
      refine tg92 C hW dX3_turnsPath_26 ?_
      refine gj_iload_n C dX3_turnsPath_29 2 rfl ?_
      refine gj_iconst (v := 1) C dX3_turnsPath_30 rfl ?_
      refine gj_isub C dX3_turnsPath_31 ?_
      obtain ⟨h19, hw⟩ := hw
      refine gt_iald C hW (by decide) h19 dX3_turnsPath_32 ?_
      refine gj_iconst (v := 1) C dX3_turnsPath_33 rfl ?_
      refine gj_iadd C dX3_turnsPath_34 ?_
      refine gj_goto (tgt := 44) C dX3_turnsPath_35 rfl ?_
      exact wq_X3_turnsPath_44 B _ _ _ hX4 _ _ _ _ hw

theorem wq_X3_turnsPath_4 {g : Gm} {d : TD} {t : Nat} (B : BdT g d prog_11_method_77_code 5 (some .boolean) 0 0) (p1 : Int32) (Φ : Int32 → (Nat → Nat → Int32) → Int64 → Prop) (v2 : Int32) (J : Nat → Nat → Int32) (lw : Int64) (hw : wl_X3_turnsPath_4 p1 Φ v2 J lw) : GJ g 5 (TP d t J lw (gs g).heap) 0 (TQ g d t (ansZ Φ)) 4 [(0, rv (t + 1)), (1, .int p1), (2, .int v2)] [] :=
  hw (fun v2 J lw => GJ g 5 (TP d t J lw (gs g).heap) 0 (TQ g d t (ansZ Φ)) 4 [(0, rv (t + 1)), (1, .int p1), (2, .int v2)] []) (fun v2 J lw h => wk_X3_turnsPath_4 B p1 Φ (fun v2 J lw => GJ g 5 (TP d t J lw (gs g).heap) 0 (TQ g d t (ansZ Φ)) 4 [(0, rv (t + 1)), (1, .int p1), (2, .int v2)] []) (fun v2 J lw h => h) v2 J lw h)
def wp_X3_turnsPath (p1 : Int32) (Φ : Int32 → (Nat → Nat → Int32) → Int64 → Prop) (J : Nat → Nat → Int32) (lw : Int64) : Prop :=
(∀ x1 : Int32, x1 = (p1 - 1) → wl_X3_turnsPath_4 p1 Φ x1 J lw)
theorem wk_X3_turnsPath {g : Gm} {d : TD} {t : Nat} (B : BdT g d prog_11_method_77_code 5 (some .boolean) 0 0) (p1 : Int32) (Φ : Int32 → (Nat → Nat → Int32) → Int64 → Prop) (J : Nat → Nat → Int32) (lw : Int64) (hw : wp_X3_turnsPath p1 Φ J lw) : GJ g 5 (TP d t J lw (gs g).heap) 0 (TQ g d t (ansZ Φ)) 0 [(0, rv (t + 1)), (1, .int p1)] [] := by
  unfold wp_X3_turnsPath at hw
  have C := B.1
  have hW := B.2.1
  refine gj_iload_n C dX3_turnsPath_0 1 rfl ?_
  refine gj_iconst (v := 1) C dX3_turnsPath_1 rfl ?_
  refine gj_isub C dX3_turnsPath_2 ?_
  refine gj_topi (fun x1 ex1 => ?_)
  have hw := hw x1 ex1
  refine gj_istore_n (lc' := [(2, .int x1), (0, rv (t + 1)), (1, .int p1)]) C dX3_turnsPath_3 (Nat.le_of_ble_eq_true rfl) rfl ?_
  refine gj_sub (lc' := [(0, rv (t + 1)), (1, .int p1), (2, .int x1)]) [1, 2, 0] rfl ?_
  exact wq_X3_turnsPath_4 B _ _ _ _ _ hw

theorem met_X3_turnsPath (l : Launch) {d : TD} {t : Nat} {J : Nat → Nat → Int32} {lw : Int64} {p1 : Int32} {Φ : Int32 → (Nat → Nat → Int32) → Int64 → Prop} (hw : wp_X3_turnsPath p1 Φ J lw) : MetT l yX3_turnsPath prog_11_method_77_code 5 (some .boolean) 0 0 [.ref t, .int p1] d t J lw (ansZ Φ) :=
  mt_of (by decide +kernel) rfl (Nat.le_of_ble_eq_true rfl) (fun g _ B => wk_X3_turnsPath B _ _ J lw hw)
theorem tc_X3_turnsPath {g : Gm} {d : TD} {t : Nat} {cc : ByteArray} {nL : Nat} {ret : Option FieldType} {fr lo : Nat} (B : BdT g d cc nL ret fr lo) {J : Nat → Nat → Int32} {lw : Int64} {H0 : Heap} {Q : State → Prop} {pc : Nat} {lc : List (Nat × Value)} {rest : List Value} {p1 : Int32} {Φ : Int32 → (Nat → Nat → Int32) → Int64 → Prop} (hw : wp_X3_turnsPath p1 Φ J lw) (hf : 1 ≤ fr) (hlo : 24 ≤ lo) (hrest : (rest.map fun v => v.category).sum ≤ 8) (dg : decode cc pc = .ok (.invokevirtual 380, 3)) (k : ∀ (r : Int32) J' lw', (r = 0 ∨ r = 1) → Φ r J' lw' → GJ g nL (TP d t J' lw' H0) 0 Q (pc + 3) lc (.int r :: rest)) : GJ g nL (TP d t J lw H0) 0 Q pc lc (.int p1 :: rv (t + 1) :: rest) :=
  gt_callV (n := 1) (As := [.int p1]) B (met_X3_turnsPath g.2.1 hw) (lw_V q1699 q1701 qs82 q97 q1702) ⟨rfl, by decide +kernel, by decide +kernel, by decide +kernel⟩ rfl hf hlo ⟨Nat.zero_le _, Nat.zero_le _⟩ rfl hrest dg (fun v J' lw' hp => by obtain ⟨r, rfl, hb, hp⟩ := hp; exact k r J' lw' hb hp)
/-! round(III)I -/
def wj_X3_round_259 (p1 : Int32) (p2 : Int32) (p3 : Int32) (Φ : Int32 → (Nat → Nat → Int32) → Int64 → Prop) (X180 : Int32 → Int32 → (Nat → Nat → Int32) → Int64 → Prop) (v4 : Int32) (J : Nat → Nat → Int32) (lw : Int64) : Prop :=
(wp_X3_turnsPath p3 (fun r32 J30 l31 => X180 v4 r32 J30 l31) J lw)
theorem wq_X3_round_259 {g : Gm} {d : TD} {t : Nat} (B : BdT g d prog_11_method_78_code 8 (some .int) 4 92) (p1 : Int32) (p2 : Int32) (p3 : Int32) (Φ : Int32 → (Nat → Nat → Int32) → Int64 → Prop) (X180 : Int32 → Int32 → (Nat → Nat → Int32) → Int64 → Prop) (hX180 : ∀ v4 v5 J lw, X180 v4 v5 J lw → GJ g 8 (TP d t J lw (gs g).heap) 0 (TQ g d t (ansI Φ)) 180 [(0, rv (t + 1)), (3, .int p3), (4, .int v4), (5, .int v5)] []) (v4 : Int32) (J : Nat → Nat → Int32) (lw : Int64) (hw : wj_X3_round_259 p1 p2 p3 Φ X180 v4 J lw) : GJ g 8 (TP d t J lw (gs g).heap) 0 (TQ g d t (ansI Φ)) 259 [(0, rv (t + 1)), (3, .int p3), (4, .int v4)] [] := by
  unfold wj_X3_round_259 at hw
  have C := B.1
  have hW := B.2.1
  refine gj_aload_n C dX3_round_259 0 rfl ?_
  refine gj_iload_n C dX3_round_260 1 rfl ?_
  refine tc_X3_turnsPath B hw (Nat.le_of_ble_eq_true rfl) (Nat.le_of_ble_eq_true rfl) (Nat.le_of_ble_eq_true rfl) dX3_round_261 (fun r32 J30 l31 br32 hw => ?_)
  refine gj_istore (lc' := [(5, .int r32), (0, rv (t + 1)), (3, .int p3), (4, .int v4)]) C dX3_round_264 (Nat.le_of_ble_eq_true rfl) rfl ?_
  refine gj_goto (tgt := 180) C dX3_round_266 rfl ?_
  refine gj_sub (lc' := [(0, rv (t + 1)), (3, .int p3), (4, .int v4), (5, .int r32)]) [1, 2, 3, 0] rfl ?_
  exact hX180 _ _ _ _ hw

def wf_X3_round_218 (p1 : Int32) (p2 : Int32) (p3 : Int32) (Φ : Int32 → (Nat → Nat → Int32) → Int64 → Prop) (X180 : Int32 → Int32 → (Nat → Nat → Int32) → Int64 → Prop) (X218 : Int32 → Int32 → (Nat → Nat → Int32) → Int64 → Prop) (v4 : Int32) (v7 : Int32) (J : Nat → Nat → Int32) (lw : Int64) : Prop :=
(if p3 ≤ v7 then wj_X3_round_259 p1 p2 p3 Φ X180 v4 J lw else (vp_in v7 (tln 49) ∧ (wp_X3_bestOf (J 49 (Int32.toNatClampNeg v7)) p3 (fun r40 J38 l39 => (∀ x41 : Int32, x41 = (if r40 = v7 then 1 else 0) → (vp_in v7 (tln 51) ∧ (∀ J44 : Nat → Nat → Int32, J44 = u2 J38 51 (Int32.toNatClampNeg v7) x41 → (∀ x45 : Int32, x45 = v7 + 1 → X218 v4 x45 J44 l39))))) J lw)))
def wl_X3_round_218 (p1 : Int32) (p2 : Int32) (p3 : Int32) (Φ : Int32 → (Nat → Nat → Int32) → Int64 → Prop) (X180 : Int32 → Int32 → (Nat → Nat → Int32) → Int64 → Prop) (v4 : Int32) (v7 : Int32) (J : Nat → Nat → Int32) (lw : Int64) : Prop := ∀ X218 : Int32 → Int32 → (Nat → Nat → Int32) → Int64 → Prop, (∀ v4 v7 J lw, wf_X3_round_218 p1 p2 p3 Φ X180 X218 v4 v7 J lw → X218 v4 v7 J lw) → X218 v4 v7 J lw
theorem wk_X3_round_218 {g : Gm} {d : TD} {t : Nat} (B : BdT g d prog_11_method_78_code 8 (some .int) 4 92) (p1 : Int32) (p2 : Int32) (p3 : Int32) (Φ : Int32 → (Nat → Nat → Int32) → Int64 → Prop) (X180 : Int32 → Int32 → (Nat → Nat → Int32) → Int64 → Prop) (X218 : Int32 → Int32 → (Nat → Nat → Int32) → Int64 → Prop) (hX180 : ∀ v4 v5 J lw, X180 v4 v5 J lw → GJ g 8 (TP d t J lw (gs g).heap) 0 (TQ g d t (ansI Φ)) 180 [(0, rv (t + 1)), (3, .int p3), (4, .int v4), (5, .int v5)] []) (hX218 : ∀ v4 v7 J lw, X218 v4 v7 J lw → GJ g 8 (TP d t J lw (gs g).heap) 0 (TQ g d t (ansI Φ)) 218 [(0, rv (t + 1)), (3, .int p3), (4, .int v4), (7, .int v7)] []) (v4 : Int32) (v7 : Int32) (J : Nat → Nat → Int32) (lw : Int64) (hw : wf_X3_round_218 p1 p2 p3 Φ X180 X218 v4 v7 J lw) : GJ g 8 (TP d t J lw (gs g).heap) 0 (TQ g d t (ansI Φ)) 218 [(0, rv (t + 1)), (3, .int p3), (4, .int v4), (7, .int v7)] [] := by
  unfold wf_X3_round_218 at hw
  have C := B.1
  have hW := B.2.1
  refine gj_iload C dX3_round_218 3 rfl ?_
  refine gj_iload_n C dX3_round_220 1 rfl ?_
  refine gj_icmp_ge (tgt := 259) C dX3_round_221 rfl (fun c36 => ?_) (fun c36 => ?_)
  · have hw := it_t hw c36
    refine gj_sub (lc' := [(0, rv (t + 1)), (3, .int p3), (4, .int v4)]) [0, 1, 2] rfl ?_
    exact wq_X3_round_259 B _ _ _ _ _ hX180 _ _ _ hw
  · have hw := it_f hw c36
    refine gj_aload_n C dX3_round_224 0 rfl ?_
    refine tg98 C hW dX3_round_225 ?_
    refine gj_iload C dX3_round_228 3 rfl ?_
    refine gj_aload_n C dX3_round_230 0 rfl ?_
    refine gj_aload_n C dX3_round_231 0 rfl ?_
    refine tg92 C hW dX3_round_232 ?_
    refine gj_iload C dX3_round_235 3 rfl ?_
    obtain ⟨h37, hw⟩ := hw
    refine gt_iald C hW (by decide) h37 dX3_round_237 ?_
    refine gj_iload_n C dX3_round_238 1 rfl ?_
    refine tc_X3_bestOf B hw (Nat.le_of_ble_eq_true rfl) (Nat.le_of_ble_eq_true rfl) (Nat.le_of_ble_eq_true rfl) dX3_round_239 (fun r40 J38 l39 hw => ?_)
    refine gj_iload C dX3_round_242 3 rfl ?_
    have key : ∀ x41 : Int32, x41 = (if r40 = v7 then 1 else 0) → GJ g 8 (TP d t J38 l39 (gs g).heap) 0 (TQ g d t (ansI Φ)) 252 [(0, rv (t + 1)), (3, .int p3), (4, .int v4), (7, .int v7)] [.int x41, .int v7, rv (ta t 51)] → GJ g 8 (TP d t J38 l39 (gs g).heap) 0 (TQ g d t (ansI Φ)) 244 [(0, rv (t + 1)), (3, .int p3), (4, .int v4), (7, .int v7)] [.int v7, .int r40, .int v7, rv (ta t 51)] := by
      intro x41 ex41 kk
      refine gj_icmp_ne (tgt := 251) C dX3_round_244 rfl (fun c42 => ?_) (fun c42 => ?_)
      · refine gj_iconst (v := 0) C dX3_round_251 rfl ?_
        rw [if_neg c42] at ex41
        subst ex41
        exact kk
      · refine gj_iconst (v := 1) C dX3_round_247 rfl ?_
        refine gj_goto (tgt := 252) C dX3_round_248 rfl ?_
        rw [if_pos c42] at ex41
        subst ex41
        exact kk
    obtain ⟨x41, ex41⟩ : ∃ x41 : Int32, x41 = (if r40 = v7 then 1 else 0) := ⟨_, rfl⟩
    have bx41 : x41 = 0 ∨ x41 = 1 := by rw [ex41]; (repeat' split) <;> simp
    refine key x41 ex41 ?_
    have hw := hw x41 ex41
    clear key
    obtain ⟨h43, hw⟩ := hw
    refine gt_iast C hW (by decide) h43 dX3_round_252 ?_
    refine gt_nmJ (fun J44 eJ44 => ?_)
    have hw := hw J44 eJ44
    obtain ⟨x45, ex45⟩ : ∃ x45 : Int32, x45 = v7 + 1 := ⟨_, rfl⟩
    have hw := hw x45 ex45
    refine gj_iinc (lc' := [(7, .int x45), (0, rv (t + 1)), (3, .int p3), (4, .int v4)]) (w := 1) (v := x45) C dX3_round_253 3 rfl rfl ex45.symm (Nat.le_of_ble_eq_true rfl) rfl ?_
    refine gj_goto (tgt := 218) C dX3_round_256 rfl ?_
    refine gj_sub (lc' := [(0, rv (t + 1)), (3, .int p3), (4, .int v4), (7, .int x45)]) [1, 2, 3, 0] rfl ?_
    exact hX218 _ _ _ _ hw

theorem wq_X3_round_218 {g : Gm} {d : TD} {t : Nat} (B : BdT g d prog_11_method_78_code 8 (some .int) 4 92) (p1 : Int32) (p2 : Int32) (p3 : Int32) (Φ : Int32 → (Nat → Nat → Int32) → Int64 → Prop) (X180 : Int32 → Int32 → (Nat → Nat → Int32) → Int64 → Prop) (hX180 : ∀ v4 v5 J lw, X180 v4 v5 J lw → GJ g 8 (TP d t J lw (gs g).heap) 0 (TQ g d t (ansI Φ)) 180 [(0, rv (t + 1)), (3, .int p3), (4, .int v4), (5, .int v5)] []) (v4 : Int32) (v7 : Int32) (J : Nat → Nat → Int32) (lw : Int64) (hw : wl_X3_round_218 p1 p2 p3 Φ X180 v4 v7 J lw) : GJ g 8 (TP d t J lw (gs g).heap) 0 (TQ g d t (ansI Φ)) 218 [(0, rv (t + 1)), (3, .int p3), (4, .int v4), (7, .int v7)] [] :=
  hw (fun v4 v7 J lw => GJ g 8 (TP d t J lw (gs g).heap) 0 (TQ g d t (ansI Φ)) 218 [(0, rv (t + 1)), (3, .int p3), (4, .int v4), (7, .int v7)] []) (fun v4 v7 J lw h => wk_X3_round_218 B p1 p2 p3 Φ X180 (fun v4 v7 J lw => GJ g 8 (TP d t J lw (gs g).heap) 0 (TQ g d t (ansI Φ)) 218 [(0, rv (t + 1)), (3, .int p3), (4, .int v4), (7, .int v7)] []) hX180 (fun v4 v7 J lw h => h) v4 v7 J lw h)
def wf_X3_round_180 (p1 : Int32) (p2 : Int32) (p3 : Int32) (Φ : Int32 → (Nat → Nat → Int32) → Int64 → Prop) (X180 : Int32 → Int32 → (Nat → Nat → Int32) → Int64 → Prop) (v4 : Int32) (v5 : Int32) (J : Nat → Nat → Int32) (lw : Int64) : Prop :=
(if v5 = 0 then (∀ J25 : Nat → Nat → Int32, J25 = u2 J 0 52 p3 → Φ v4 J25 lw) else (wp_X3_all p3 (fun r28 J26 l27 => (if r28 ≤ v4 then wj_X3_round_259 p1 p2 p3 Φ X180 v4 J26 l27 else (wp_X3_copies 49 50 (fun J33 l34 => wl_X3_round_218 p1 p2 p3 Φ X180 r28 0 J33 l34) J26 l27))) J lw))
def wl_X3_round_180 (p1 : Int32) (p2 : Int32) (p3 : Int32) (Φ : Int32 → (Nat → Nat → Int32) → Int64 → Prop) (v4 : Int32) (v5 : Int32) (J : Nat → Nat → Int32) (lw : Int64) : Prop := ∀ X180 : Int32 → Int32 → (Nat → Nat → Int32) → Int64 → Prop, (∀ v4 v5 J lw, wf_X3_round_180 p1 p2 p3 Φ X180 v4 v5 J lw → X180 v4 v5 J lw) → X180 v4 v5 J lw
theorem wk_X3_round_180 {g : Gm} {d : TD} {t : Nat} (B : BdT g d prog_11_method_78_code 8 (some .int) 4 92) (p1 : Int32) (p2 : Int32) (p3 : Int32) (Φ : Int32 → (Nat → Nat → Int32) → Int64 → Prop) (X180 : Int32 → Int32 → (Nat → Nat → Int32) → Int64 → Prop) (hX180 : ∀ v4 v5 J lw, X180 v4 v5 J lw → GJ g 8 (TP d t J lw (gs g).heap) 0 (TQ g d t (ansI Φ)) 180 [(0, rv (t + 1)), (3, .int p3), (4, .int v4), (5, .int v5)] []) (v4 : Int32) (v5 : Int32) (J : Nat → Nat → Int32) (lw : Int64) (hw : wf_X3_round_180 p1 p2 p3 Φ X180 v4 v5 J lw) : GJ g 8 (TP d t J lw (gs g).heap) 0 (TQ g d t (ansI Φ)) 180 [(0, rv (t + 1)), (3, .int p3), (4, .int v4), (5, .int v5)] [] := by
  unfold wf_X3_round_180 at hw
  have C := B.1
  have hW := B.2.1
  refine gj_iload C dX3_round_180 3 rfl ?_
  refine gj_if_eq (tgt := 269) C dX3_round_182 rfl (fun c24 => ?_) (fun c24 => ?_)
  · have hw := it_t hw c24
    refine gj_aload_n C dX3_round_269 0 rfl ?_
    refine gj_iload_n C dX3_round_270 1 rfl ?_
    refine tp270 C hW dX3_round_271 ?_
    refine gt_nmJ (fun J25 eJ25 => ?_)
    have hw := hw J25 eJ25
    refine gj_iload C dX3_round_274 2 rfl ?_
    exact gt_iret B hw dX3_round_276
  · have hw := it_f hw c24
    refine gj_aload_n C dX3_round_185 0 rfl ?_
    refine gj_iload_n C dX3_round_186 1 rfl ?_
    refine tc_X3_all B hw (Nat.le_of_ble_eq_true rfl) (Nat.le_of_ble_eq_true rfl) (Nat.le_of_ble_eq_true rfl) dX3_round_187 (fun r28 J26 l27 hw => ?_)
    refine gj_istore (lc' := [(6, .int r28), (0, rv (t + 1)), (3, .int p3), (4, .int v4), (5, .int v5)]) C dX3_round_190 (Nat.le_of_ble_eq_true rfl) rfl ?_
    refine gj_iload C dX3_round_192 0 rfl ?_
    refine gj_iload C dX3_round_194 3 rfl ?_
    refine gj_icmp_le (tgt := 259) C dX3_round_196 rfl (fun c29 => ?_) (fun c29 => ?_)
    · have hw := it_t hw c29
      refine gj_sub (lc' := [(0, rv (t + 1)), (3, .int p3), (4, .int v4)]) [1, 2, 3] rfl ?_
      exact wq_X3_round_259 B _ _ _ _ _ hX180 _ _ _ hw
    · have hw := it_f hw c29
      refine gj_iload C dX3_round_199 0 rfl ?_
      refine gj_istore (lc' := [(4, .int r28), (6, .int r28), (0, rv (t + 1)), (3, .int p3), (5, .int v5)]) C dX3_round_201 (Nat.le_of_ble_eq_true rfl) rfl ?_
      refine gj_aload_n C dX3_round_203 2 rfl ?_
      refine gj_aload_n C dX3_round_204 2 rfl ?_
      refine tg92 C hW dX3_round_205 ?_
      refine gj_aload_n C dX3_round_208 2 rfl ?_
      refine tg95 C hW dX3_round_209 ?_
      refine tc_X3_copies B hw (Nat.le_of_ble_eq_true rfl) (Nat.le_of_ble_eq_true rfl) (Nat.le_of_ble_eq_true rfl) dX3_round_212 (fun J33 l34 hw => ?_)
      refine gj_iconst (v := 0) C dX3_round_215 rfl ?_
      refine gj_istore (lc' := [(7, .int 0), (4, .int r28), (6, .int r28), (0, rv (t + 1)), (3, .int p3), (5, .int v5)]) C dX3_round_216 (Nat.le_of_ble_eq_true rfl) rfl ?_
      refine gj_sub (lc' := [(0, rv (t + 1)), (3, .int p3), (4, .int r28), (7, .int 0)]) [3, 4, 1, 0] rfl ?_
      exact wq_X3_round_218 B _ _ _ _ _ hX180 _ _ _ _ hw

theorem wq_X3_round_180 {g : Gm} {d : TD} {t : Nat} (B : BdT g d prog_11_method_78_code 8 (some .int) 4 92) (p1 : Int32) (p2 : Int32) (p3 : Int32) (Φ : Int32 → (Nat → Nat → Int32) → Int64 → Prop) (v4 : Int32) (v5 : Int32) (J : Nat → Nat → Int32) (lw : Int64) (hw : wl_X3_round_180 p1 p2 p3 Φ v4 v5 J lw) : GJ g 8 (TP d t J lw (gs g).heap) 0 (TQ g d t (ansI Φ)) 180 [(0, rv (t + 1)), (3, .int p3), (4, .int v4), (5, .int v5)] [] :=
  hw (fun v4 v5 J lw => GJ g 8 (TP d t J lw (gs g).heap) 0 (TQ g d t (ansI Φ)) 180 [(0, rv (t + 1)), (3, .int p3), (4, .int v4), (5, .int v5)] []) (fun v4 v5 J lw h => wk_X3_round_180 B p1 p2 p3 Φ (fun v4 v5 J lw => GJ g 8 (TP d t J lw (gs g).heap) 0 (TQ g d t (ansI Φ)) 180 [(0, rv (t + 1)), (3, .int p3), (4, .int v4), (5, .int v5)] []) (fun v4 v5 J lw h => h) v4 v5 J lw h)
def wj_X3_round_167 (p1 : Int32) (p2 : Int32) (p3 : Int32) (Φ : Int32 → (Nat → Nat → Int32) → Int64 → Prop) (X128 : Int32 → (Nat → Nat → Int32) → Int64 → Prop) (v4 : Int32) (s0 : Int32) (s1 : Int32) (J : Nat → Nat → Int32) (lw : Int64) : Prop :=
(vp_in s1 (tln 49) ∧ (∀ J49 : Nat → Nat → Int32, J49 = u2 J 49 (Int32.toNatClampNeg s1) s0 → (∀ x50 : Int32, x50 = v4 + 1 → X128 x50 J49 lw)))
theorem wq_X3_round_167 {g : Gm} {d : TD} {t : Nat} (B : BdT g d prog_11_method_78_code 8 (some .int) 4 92) (p1 : Int32) (p2 : Int32) (p3 : Int32) (Φ : Int32 → (Nat → Nat → Int32) → Int64 → Prop) (X128 : Int32 → (Nat → Nat → Int32) → Int64 → Prop) (hX128 : ∀ v4 J lw, X128 v4 J lw → GJ g 8 (TP d t J lw (gs g).heap) 0 (TQ g d t (ansI Φ)) 128 [(0, rv (t + 1)), (3, .int p3), (4, .int v4)] []) (v4 : Int32) (s0 : Int32) (s1 : Int32) (J : Nat → Nat → Int32) (lw : Int64) (hw : wj_X3_round_167 p1 p2 p3 Φ X128 v4 s0 s1 J lw) : GJ g 8 (TP d t J lw (gs g).heap) 0 (TQ g d t (ansI Φ)) 167 [(0, rv (t + 1)), (3, .int p3), (4, .int v4)] [.int s0, .int s1, rv (ta t 49)] := by
  unfold wj_X3_round_167 at hw
  have C := B.1
  have hW := B.2.1
  obtain ⟨h48, hw⟩ := hw
  refine gt_iast C hW (by decide) h48 dX3_round_167 ?_
  refine gt_nmJ (fun J49 eJ49 => ?_)
  have hw := hw J49 eJ49
  obtain ⟨x50, ex50⟩ : ∃ x50 : Int32, x50 = v4 + 1 := ⟨_, rfl⟩
  have hw := hw x50 ex50
  refine gj_iinc (lc' := [(4, .int x50), (0, rv (t + 1)), (3, .int p3)]) (w := 1) (v := x50) C dX3_round_168 2 rfl rfl ex50.symm (Nat.le_of_ble_eq_true rfl) rfl ?_
  refine gj_goto (tgt := 128) C dX3_round_171 rfl ?_
  refine gj_sub (lc' := [(0, rv (t + 1)), (3, .int p3), (4, .int x50)]) [1, 2, 0] rfl ?_
  exact hX128 _ _ _ hw

def wf_X3_round_128 (p1 : Int32) (p2 : Int32) (p3 : Int32) (Φ : Int32 → (Nat → Nat → Int32) → Int64 → Prop) (X128 : Int32 → (Nat → Nat → Int32) → Int64 → Prop) (v4 : Int32) (J : Nat → Nat → Int32) (lw : Int64) : Prop :=
(if p3 ≤ v4 then wl_X3_round_180 p1 p2 p3 Φ (-1) 1 J lw else (vp_in (v4 - 1) (tln 49) ∧ (if (J 49 (Int32.toNatClampNeg (v4 - 1))) ≤ 0 then wj_X3_round_167 p1 p2 p3 Φ X128 v4 0 v4 J lw else (vp_in (v4 - 1) (tln 49) ∧ wj_X3_round_167 p1 p2 p3 Φ X128 v4 ((J 49 (Int32.toNatClampNeg (v4 - 1))) - 1) v4 J lw))))
def wl_X3_round_128 (p1 : Int32) (p2 : Int32) (p3 : Int32) (Φ : Int32 → (Nat → Nat → Int32) → Int64 → Prop) (v4 : Int32) (J : Nat → Nat → Int32) (lw : Int64) : Prop := ∀ X128 : Int32 → (Nat → Nat → Int32) → Int64 → Prop, (∀ v4 J lw, wf_X3_round_128 p1 p2 p3 Φ X128 v4 J lw → X128 v4 J lw) → X128 v4 J lw
theorem wk_X3_round_128 {g : Gm} {d : TD} {t : Nat} (B : BdT g d prog_11_method_78_code 8 (some .int) 4 92) (p1 : Int32) (p2 : Int32) (p3 : Int32) (Φ : Int32 → (Nat → Nat → Int32) → Int64 → Prop) (X128 : Int32 → (Nat → Nat → Int32) → Int64 → Prop) (hX128 : ∀ v4 J lw, X128 v4 J lw → GJ g 8 (TP d t J lw (gs g).heap) 0 (TQ g d t (ansI Φ)) 128 [(0, rv (t + 1)), (3, .int p3), (4, .int v4)] []) (v4 : Int32) (J : Nat → Nat → Int32) (lw : Int64) (hw : wf_X3_round_128 p1 p2 p3 Φ X128 v4 J lw) : GJ g 8 (TP d t J lw (gs g).heap) 0 (TQ g d t (ansI Φ)) 128 [(0, rv (t + 1)), (3, .int p3), (4, .int v4)] [] := by
  unfold wf_X3_round_128 at hw
  have C := B.1
  have hW := B.2.1
  refine gj_iload C dX3_round_128 2 rfl ?_
  refine gj_iload_n C dX3_round_130 1 rfl ?_
  refine gj_icmp_ge (tgt := 174) C dX3_round_131 rfl (fun c23 => ?_) (fun c23 => ?_)
  · have hw := it_t hw c23
    refine gj_iconst (v := (-1)) C dX3_round_174 rfl ?_
    refine gj_istore (lc' := [(4, .int (-1)), (0, rv (t + 1)), (3, .int p3)]) C dX3_round_175 (Nat.le_of_ble_eq_true rfl) rfl ?_
    refine gj_iconst (v := 1) C dX3_round_177 rfl ?_
    refine gj_istore (lc' := [(5, .int 1), (4, .int (-1)), (0, rv (t + 1)), (3, .int p3)]) C dX3_round_178 (Nat.le_of_ble_eq_true rfl) rfl ?_
    refine gj_sub (lc' := [(0, rv (t + 1)), (3, .int p3), (4, .int (-1)), (5, .int 1)]) [2, 3, 1, 0] rfl ?_
    exact wq_X3_round_180 B _ _ _ _ _ _ _ _ hw
  · have hw := it_f hw c23
    refine gj_aload_n C dX3_round_134 0 rfl ?_
    refine tg92 C hW dX3_round_135 ?_
    refine gj_iload C dX3_round_138 2 rfl ?_
    refine gj_aload_n C dX3_round_140 0 rfl ?_
    refine tg92 C hW dX3_round_141 ?_
    refine gj_iload C dX3_round_144 2 rfl ?_
    refine gj_iconst (v := 1) C dX3_round_146 rfl ?_
    refine gj_isub C dX3_round_147 ?_
    obtain ⟨h46, hw⟩ := hw
    refine gt_iald C hW (by decide) h46 dX3_round_148 ?_
    refine gj_if_le (tgt := 166) C dX3_round_149 rfl (fun c47 => ?_) (fun c47 => ?_)
    · have hw := it_t hw c47
      refine gj_iconst (v := 0) C dX3_round_166 rfl ?_
      exact wq_X3_round_167 B _ _ _ _ _ hX128 _ _ _ _ _ hw
    · have hw := it_f hw c47
      refine gj_aload_n C dX3_round_152 0 rfl ?_
      refine tg92 C hW dX3_round_153 ?_
      refine gj_iload C dX3_round_156 2 rfl ?_
      refine gj_iconst (v := 1) C dX3_round_158 rfl ?_
      refine gj_isub C dX3_round_159 ?_
      obtain ⟨h51, hw⟩ := hw
      refine gt_iald C hW (by decide) h51 dX3_round_160 ?_
      refine gj_iconst (v := 1) C dX3_round_161 rfl ?_
      refine gj_isub C dX3_round_162 ?_
      refine gj_goto (tgt := 167) C dX3_round_163 rfl ?_
      exact wq_X3_round_167 B _ _ _ _ _ hX128 _ _ _ _ _ hw

theorem wq_X3_round_128 {g : Gm} {d : TD} {t : Nat} (B : BdT g d prog_11_method_78_code 8 (some .int) 4 92) (p1 : Int32) (p2 : Int32) (p3 : Int32) (Φ : Int32 → (Nat → Nat → Int32) → Int64 → Prop) (v4 : Int32) (J : Nat → Nat → Int32) (lw : Int64) (hw : wl_X3_round_128 p1 p2 p3 Φ v4 J lw) : GJ g 8 (TP d t J lw (gs g).heap) 0 (TQ g d t (ansI Φ)) 128 [(0, rv (t + 1)), (3, .int p3), (4, .int v4)] [] :=
  hw (fun v4 J lw => GJ g 8 (TP d t J lw (gs g).heap) 0 (TQ g d t (ansI Φ)) 128 [(0, rv (t + 1)), (3, .int p3), (4, .int v4)] []) (fun v4 J lw h => wk_X3_round_128 B p1 p2 p3 Φ (fun v4 J lw => GJ g 8 (TP d t J lw (gs g).heap) 0 (TQ g d t (ansI Φ)) 128 [(0, rv (t + 1)), (3, .int p3), (4, .int v4)] []) (fun v4 J lw h => h) v4 J lw h)
def wf_X3_round_69 (p1 : Int32) (p2 : Int32) (p3 : Int32) (Φ : Int32 → (Nat → Nat → Int32) → Int64 → Prop) (X57 : Int32 → (Nat → Nat → Int32) → Int64 → Prop) (X69 : Int32 → Int32 → (Nat → Nat → Int32) → Int64 → Prop) (v4 : Int32) (v5 : Int32) (J : Nat → Nat → Int32) (lw : Int64) : Prop :=
(if p3 ≤ v5 then (∀ x53 : Int32, x53 = v4 + 1 → X57 x53 J lw) else (vp_in v4 (tln 5) ∧ (wp_X3_chanceOf v4 (p2 + v5) (fun r57 J55 l56 => (vp_in ((6 * v4) + v5) (tln 48) ∧ (∀ J59 : Nat → Nat → Int32, J59 = u2 J55 48 (Int32.toNatClampNeg ((6 * v4) + v5)) ((J 5 (Int32.toNatClampNeg v4)) * r57) → (∀ x60 : Int32, x60 = v5 + 1 → X69 v4 x60 J59 l56)))) J lw)))
def wl_X3_round_69 (p1 : Int32) (p2 : Int32) (p3 : Int32) (Φ : Int32 → (Nat → Nat → Int32) → Int64 → Prop) (X57 : Int32 → (Nat → Nat → Int32) → Int64 → Prop) (v4 : Int32) (v5 : Int32) (J : Nat → Nat → Int32) (lw : Int64) : Prop := ∀ X69 : Int32 → Int32 → (Nat → Nat → Int32) → Int64 → Prop, (∀ v4 v5 J lw, wf_X3_round_69 p1 p2 p3 Φ X57 X69 v4 v5 J lw → X69 v4 v5 J lw) → X69 v4 v5 J lw
theorem wk_X3_round_69 {g : Gm} {d : TD} {t : Nat} (B : BdT g d prog_11_method_78_code 8 (some .int) 4 92) (p1 : Int32) (p2 : Int32) (p3 : Int32) (Φ : Int32 → (Nat → Nat → Int32) → Int64 → Prop) (X57 : Int32 → (Nat → Nat → Int32) → Int64 → Prop) (X69 : Int32 → Int32 → (Nat → Nat → Int32) → Int64 → Prop) (hX57 : ∀ v4 J lw, X57 v4 J lw → GJ g 8 (TP d t J lw (gs g).heap) 0 (TQ g d t (ansI Φ)) 57 [(0, rv (t + 1)), (1, .int p1), (2, .int p2), (3, .int p3), (4, .int v4)] []) (hX69 : ∀ v4 v5 J lw, X69 v4 v5 J lw → GJ g 8 (TP d t J lw (gs g).heap) 0 (TQ g d t (ansI Φ)) 69 [(0, rv (t + 1)), (1, .int p1), (2, .int p2), (3, .int p3), (4, .int v4), (5, .int v5)] []) (v4 : Int32) (v5 : Int32) (J : Nat → Nat → Int32) (lw : Int64) (hw : wf_X3_round_69 p1 p2 p3 Φ X57 X69 v4 v5 J lw) : GJ g 8 (TP d t J lw (gs g).heap) 0 (TQ g d t (ansI Φ)) 69 [(0, rv (t + 1)), (1, .int p1), (2, .int p2), (3, .int p3), (4, .int v4), (5, .int v5)] [] := by
  unfold wf_X3_round_69 at hw
  have C := B.1
  have hW := B.2.1
  refine gj_iload C dX3_round_69 5 rfl ?_
  refine gj_iload_n C dX3_round_71 3 rfl ?_
  refine gj_icmp_ge (tgt := 112) C dX3_round_72 rfl (fun c52 => ?_) (fun c52 => ?_)
  · have hw := it_t hw c52
    obtain ⟨x53, ex53⟩ : ∃ x53 : Int32, x53 = v4 + 1 := ⟨_, rfl⟩
    have hw := hw x53 ex53
    refine gj_iinc (lc' := [(4, .int x53), (0, rv (t + 1)), (1, .int p1), (2, .int p2), (3, .int p3), (5, .int v5)]) (w := 1) (v := x53) C dX3_round_112 4 rfl rfl ex53.symm (Nat.le_of_ble_eq_true rfl) rfl ?_
    refine gj_goto (tgt := 57) C dX3_round_115 rfl ?_
    refine gj_sub (lc' := [(0, rv (t + 1)), (1, .int p1), (2, .int p2), (3, .int p3), (4, .int x53)]) [1, 2, 3, 4, 0] rfl ?_
    exact hX57 _ _ _ hw
  · have hw := it_f hw c52
    refine gj_aload_n C dX3_round_75 0 rfl ?_
    refine tg89 C hW dX3_round_76 ?_
    refine gj_bipush (v := 6) C dX3_round_79 rfl ?_
    refine gj_iload C dX3_round_81 4 rfl ?_
    refine gj_imul C dX3_round_83 ?_
    refine gj_iload C dX3_round_84 5 rfl ?_
    refine gj_iadd C dX3_round_86 ?_
    refine gj_aload_n C dX3_round_87 0 rfl ?_
    refine tg7 C hW dX3_round_88 ?_
    refine gj_iload C dX3_round_91 4 rfl ?_
    obtain ⟨h54, hw⟩ := hw
    refine gt_iald C hW (by decide) h54 dX3_round_93 ?_
    refine gj_aload_n C dX3_round_94 0 rfl ?_
    refine gj_iload C dX3_round_95 4 rfl ?_
    refine gj_iload_n C dX3_round_97 2 rfl ?_
    refine gj_iload C dX3_round_98 5 rfl ?_
    refine gj_iadd C dX3_round_100 ?_
    refine tc_X3_chanceOf B hw (Nat.le_of_ble_eq_true rfl) (Nat.le_of_ble_eq_true rfl) (Nat.le_of_ble_eq_true rfl) dX3_round_101 (fun r57 J55 l56 hw => ?_)
    refine gj_imul C dX3_round_104 ?_
    obtain ⟨h58, hw⟩ := hw
    refine gt_iast C hW (by decide) h58 dX3_round_105 ?_
    refine gt_nmJ (fun J59 eJ59 => ?_)
    have hw := hw J59 eJ59
    obtain ⟨x60, ex60⟩ : ∃ x60 : Int32, x60 = v5 + 1 := ⟨_, rfl⟩
    have hw := hw x60 ex60
    refine gj_iinc (lc' := [(5, .int x60), (0, rv (t + 1)), (1, .int p1), (2, .int p2), (3, .int p3), (4, .int v4)]) (w := 1) (v := x60) C dX3_round_106 5 rfl rfl ex60.symm (Nat.le_of_ble_eq_true rfl) rfl ?_
    refine gj_goto (tgt := 69) C dX3_round_109 rfl ?_
    refine gj_sub (lc' := [(0, rv (t + 1)), (1, .int p1), (2, .int p2), (3, .int p3), (4, .int v4), (5, .int x60)]) [1, 2, 3, 4, 5, 0] rfl ?_
    exact hX69 _ _ _ _ hw

theorem wq_X3_round_69 {g : Gm} {d : TD} {t : Nat} (B : BdT g d prog_11_method_78_code 8 (some .int) 4 92) (p1 : Int32) (p2 : Int32) (p3 : Int32) (Φ : Int32 → (Nat → Nat → Int32) → Int64 → Prop) (X57 : Int32 → (Nat → Nat → Int32) → Int64 → Prop) (hX57 : ∀ v4 J lw, X57 v4 J lw → GJ g 8 (TP d t J lw (gs g).heap) 0 (TQ g d t (ansI Φ)) 57 [(0, rv (t + 1)), (1, .int p1), (2, .int p2), (3, .int p3), (4, .int v4)] []) (v4 : Int32) (v5 : Int32) (J : Nat → Nat → Int32) (lw : Int64) (hw : wl_X3_round_69 p1 p2 p3 Φ X57 v4 v5 J lw) : GJ g 8 (TP d t J lw (gs g).heap) 0 (TQ g d t (ansI Φ)) 69 [(0, rv (t + 1)), (1, .int p1), (2, .int p2), (3, .int p3), (4, .int v4), (5, .int v5)] [] :=
  hw (fun v4 v5 J lw => GJ g 8 (TP d t J lw (gs g).heap) 0 (TQ g d t (ansI Φ)) 69 [(0, rv (t + 1)), (1, .int p1), (2, .int p2), (3, .int p3), (4, .int v4), (5, .int v5)] []) (fun v4 v5 J lw h => wk_X3_round_69 B p1 p2 p3 Φ X57 (fun v4 v5 J lw => GJ g 8 (TP d t J lw (gs g).heap) 0 (TQ g d t (ansI Φ)) 69 [(0, rv (t + 1)), (1, .int p1), (2, .int p2), (3, .int p3), (4, .int v4), (5, .int v5)] []) hX57 (fun v4 v5 J lw h => h) v4 v5 J lw h)
def wf_X3_round_57 (p1 : Int32) (p2 : Int32) (p3 : Int32) (Φ : Int32 → (Nat → Nat → Int32) → Int64 → Prop) (X57 : Int32 → (Nat → Nat → Int32) → Int64 → Prop) (v4 : Int32) (J : Nat → Nat → Int32) (lw : Int64) : Prop :=
(if (J 0 1) ≤ v4 then (vp_in 0 (tln 49) ∧ (∀ J22 : Nat → Nat → Int32, J22 = u2 J 49 (Int32.toNatClampNeg 0) p1 → wl_X3_round_128 p1 p2 p3 Φ 1 J22 lw)) else wl_X3_round_69 p1 p2 p3 Φ X57 v4 0 J lw)
def wl_X3_round_57 (p1 : Int32) (p2 : Int32) (p3 : Int32) (Φ : Int32 → (Nat → Nat → Int32) → Int64 → Prop) (v4 : Int32) (J : Nat → Nat → Int32) (lw : Int64) : Prop := ∀ X57 : Int32 → (Nat → Nat → Int32) → Int64 → Prop, (∀ v4 J lw, wf_X3_round_57 p1 p2 p3 Φ X57 v4 J lw → X57 v4 J lw) → X57 v4 J lw
theorem wk_X3_round_57 {g : Gm} {d : TD} {t : Nat} (B : BdT g d prog_11_method_78_code 8 (some .int) 4 92) (p1 : Int32) (p2 : Int32) (p3 : Int32) (Φ : Int32 → (Nat → Nat → Int32) → Int64 → Prop) (X57 : Int32 → (Nat → Nat → Int32) → Int64 → Prop) (hX57 : ∀ v4 J lw, X57 v4 J lw → GJ g 8 (TP d t J lw (gs g).heap) 0 (TQ g d t (ansI Φ)) 57 [(0, rv (t + 1)), (1, .int p1), (2, .int p2), (3, .int p3), (4, .int v4)] []) (v4 : Int32) (J : Nat → Nat → Int32) (lw : Int64) (hw : wf_X3_round_57 p1 p2 p3 Φ X57 v4 J lw) : GJ g 8 (TP d t J lw (gs g).heap) 0 (TQ g d t (ansI Φ)) 57 [(0, rv (t + 1)), (1, .int p1), (2, .int p2), (3, .int p3), (4, .int v4)] [] := by
  unfold wf_X3_round_57 at hw
  have C := B.1
  have hW := B.2.1
  refine gj_iload C dX3_round_57 4 rfl ?_
  refine gj_aload_n C dX3_round_59 0 rfl ?_
  refine tg248 C hW dX3_round_60 ?_
  refine gj_icmp_ge (tgt := 118) C dX3_round_63 rfl (fun c20 => ?_) (fun c20 => ?_)
  · have hw := it_t hw c20
    refine gj_aload_n C dX3_round_118 0 rfl ?_
    refine tg92 C hW dX3_round_119 ?_
    refine gj_iconst (v := 0) C dX3_round_122 rfl ?_
    refine gj_iload_n C dX3_round_123 1 rfl ?_
    obtain ⟨h21, hw⟩ := hw
    refine gt_iast C hW (by decide) h21 dX3_round_124 ?_
    refine gt_nmJ (fun J22 eJ22 => ?_)
    have hw := hw J22 eJ22
    refine gj_iconst (v := 1) C dX3_round_125 rfl ?_
    refine gj_istore (lc' := [(4, .int 1), (0, rv (t + 1)), (1, .int p1), (2, .int p2), (3, .int p3)]) C dX3_round_126 (Nat.le_of_ble_eq_true rfl) rfl ?_
    refine gj_sub (lc' := [(0, rv (t + 1)), (3, .int p3), (4, .int 1)]) [1, 4, 0] rfl ?_
    exact wq_X3_round_128 B _ _ _ _ _ _ _ hw
  · have hw := it_f hw c20
    refine gj_iconst (v := 0) C dX3_round_66 rfl ?_
    refine gj_istore (lc' := [(5, .int 0), (0, rv (t + 1)), (1, .int p1), (2, .int p2), (3, .int p3), (4, .int v4)]) C dX3_round_67 (Nat.le_of_ble_eq_true rfl) rfl ?_
    refine gj_sub (lc' := [(0, rv (t + 1)), (1, .int p1), (2, .int p2), (3, .int p3), (4, .int v4), (5, .int 0)]) [1, 2, 3, 4, 5, 0] rfl ?_
    exact wq_X3_round_69 B _ _ _ _ _ hX57 _ _ _ _ hw

theorem wq_X3_round_57 {g : Gm} {d : TD} {t : Nat} (B : BdT g d prog_11_method_78_code 8 (some .int) 4 92) (p1 : Int32) (p2 : Int32) (p3 : Int32) (Φ : Int32 → (Nat → Nat → Int32) → Int64 → Prop) (v4 : Int32) (J : Nat → Nat → Int32) (lw : Int64) (hw : wl_X3_round_57 p1 p2 p3 Φ v4 J lw) : GJ g 8 (TP d t J lw (gs g).heap) 0 (TQ g d t (ansI Φ)) 57 [(0, rv (t + 1)), (1, .int p1), (2, .int p2), (3, .int p3), (4, .int v4)] [] :=
  hw (fun v4 J lw => GJ g 8 (TP d t J lw (gs g).heap) 0 (TQ g d t (ansI Φ)) 57 [(0, rv (t + 1)), (1, .int p1), (2, .int p2), (3, .int p3), (4, .int v4)] []) (fun v4 J lw h => wk_X3_round_57 B p1 p2 p3 Φ (fun v4 J lw => GJ g 8 (TP d t J lw (gs g).heap) 0 (TQ g d t (ansI Φ)) 57 [(0, rv (t + 1)), (1, .int p1), (2, .int p2), (3, .int p3), (4, .int v4)] []) (fun v4 J lw h => h) v4 J lw h)
def wp_X3_round (p1 : Int32) (p2 : Int32) (p3 : Int32) (Φ : Int32 → (Nat → Nat → Int32) → Int64 → Prop) (J : Nat → Nat → Int32) (lw : Int64) : Prop :=
(∀ J1 : Nat → Nat → Int32, J1 = u2 J 0 0 0 → (wp_X3_isRoom p1 (fun r4 J2 l3 => (if r4 = 0 then Φ 0 J2 l3 else (wp_X3_isHour p2 (fun r8 J6 l7 => (if r8 = 0 then Φ 0 J6 l7 else (wp_X3_within p3 1 6 (fun r12 J10 l11 => (∀ x13 : Int32, x13 = (if r12 = 0 then 0 else (if 24 < (p2 + p3) then 0 else 1)) → (wp_X3_right x13 2 (fun r18 J16 l17 => (if r18 = 0 then Φ 0 J16 l17 else wl_X3_round_57 p1 p2 p3 Φ 0 J16 l17)) J10 l11))) J6 l7))) J2 l3))) J1 lw))
theorem wk_X3_round {g : Gm} {d : TD} {t : Nat} (B : BdT g d prog_11_method_78_code 8 (some .int) 4 92) (p1 : Int32) (p2 : Int32) (p3 : Int32) (Φ : Int32 → (Nat → Nat → Int32) → Int64 → Prop) (J : Nat → Nat → Int32) (lw : Int64) (hw : wp_X3_round p1 p2 p3 Φ J lw) : GJ g 8 (TP d t J lw (gs g).heap) 0 (TQ g d t (ansI Φ)) 0 [(0, rv (t + 1)), (1, .int p1), (2, .int p2), (3, .int p3)] [] := by
  unfold wp_X3_round at hw
  have C := B.1
  have hW := B.2.1
  refine gj_aload_n C dX3_round_0 0 rfl ?_
  refine gj_iconst (v := 0) C dX3_round_1 rfl ?_
  refine tp134 C hW dX3_round_2 ?_
  refine gt_nmJ (fun J1 eJ1 => ?_)
  have hw := hw J1 eJ1
  refine gj_aload_n C dX3_round_5 0 rfl ?_
  refine gj_iload_n C dX3_round_6 1 rfl ?_
  refine tc_X3_isRoom B hw (Nat.le_of_ble_eq_true rfl) (Nat.le_of_ble_eq_true rfl) (Nat.le_of_ble_eq_true rfl) dX3_round_7 (fun r4 J2 l3 br4 hw => ?_)
  refine gj_if_eq (tgt := 52) C dX3_round_10 rfl (fun c5 => ?_) (fun c5 => ?_)
  · have hw := it_t hw c5
    refine gj_iconst (v := 0) C dX3_round_52 rfl ?_
    exact gt_iret B hw dX3_round_53
  · have hw := it_f hw c5
    refine gj_aload_n C dX3_round_13 0 rfl ?_
    refine gj_iload_n C dX3_round_14 2 rfl ?_
    refine tc_X3_isHour B hw (Nat.le_of_ble_eq_true rfl) (Nat.le_of_ble_eq_true rfl) (Nat.le_of_ble_eq_true rfl) dX3_round_15 (fun r8 J6 l7 br8 hw => ?_)
    refine gj_if_eq (tgt := 52) C dX3_round_18 rfl (fun c9 => ?_) (fun c9 => ?_)
    · have hw := it_t hw c9
      refine gj_iconst (v := 0) C dX3_round_52 rfl ?_
      exact gt_iret B hw dX3_round_53
    · have hw := it_f hw c9
      refine gj_aload_n C dX3_round_21 0 rfl ?_
      refine gj_iload_n C dX3_round_22 3 rfl ?_
      refine gj_iconst (v := 1) C dX3_round_23 rfl ?_
      refine gj_bipush (v := 6) C dX3_round_24 rfl ?_
      refine tc_X3_within B hw (Nat.le_of_ble_eq_true rfl) (Nat.le_of_ble_eq_true rfl) (Nat.le_of_ble_eq_true rfl) dX3_round_26 (fun r12 J10 l11 br12 hw => ?_)
      have key : ∀ x13 : Int32, x13 = (if r12 = 0 then 0 else (if 24 < (p2 + p3) then 0 else 1)) → GJ g 8 (TP d t J10 l11 (gs g).heap) 0 (TQ g d t (ansI Φ)) 45 [(0, rv (t + 1)), (1, .int p1), (2, .int p2), (3, .int p3)] [.int x13, rv (t + 1)] → GJ g 8 (TP d t J10 l11 (gs g).heap) 0 (TQ g d t (ansI Φ)) 29 [(0, rv (t + 1)), (1, .int p1), (2, .int p2), (3, .int p3)] [.int r12, rv (t + 1)] := by
        intro x13 ex13 kk
        refine gj_if_eq (tgt := 44) C dX3_round_29 rfl (fun c14 => ?_) (fun c14 => ?_)
        · refine gj_iconst (v := 0) C dX3_round_44 rfl ?_
          rw [if_pos c14] at ex13
          subst ex13
          exact kk
        · refine gj_iload_n C dX3_round_32 2 rfl ?_
          refine gj_iload_n C dX3_round_33 3 rfl ?_
          refine gj_iadd C dX3_round_34 ?_
          refine gj_bipush (v := 24) C dX3_round_35 rfl ?_
          refine gj_icmp_gt (tgt := 44) C dX3_round_37 rfl (fun c15 => ?_) (fun c15 => ?_)
          · refine gj_iconst (v := 0) C dX3_round_44 rfl ?_
            rw [if_neg c14, if_pos c15] at ex13
            subst ex13
            exact kk
          · refine gj_iconst (v := 1) C dX3_round_40 rfl ?_
            refine gj_goto (tgt := 45) C dX3_round_41 rfl ?_
            rw [if_neg c14, if_neg c15] at ex13
            subst ex13
            exact kk
      obtain ⟨x13, ex13⟩ : ∃ x13 : Int32, x13 = (if r12 = 0 then 0 else (if 24 < (p2 + p3) then 0 else 1)) := ⟨_, rfl⟩
      have bx13 : x13 = 0 ∨ x13 = 1 := by rw [ex13]; (repeat' split) <;> simp
      refine key x13 ex13 ?_
      have hw := hw x13 ex13
      clear key
      refine gj_iconst (v := 2) C dX3_round_45 rfl ?_
      refine tc_X3_right B hw (Nat.le_of_ble_eq_true rfl) (Nat.le_of_ble_eq_true rfl) (Nat.le_of_ble_eq_true rfl) dX3_round_46 (fun r18 J16 l17 br18 hw => ?_)
      refine gj_if_ne (tgt := 54) C dX3_round_49 rfl (fun c19 => ?_) (fun c19 => ?_)
      · have hw := it_f hw c19
        refine gj_iconst (v := 0) C dX3_round_54 rfl ?_
        refine gj_istore (lc' := [(4, .int 0), (0, rv (t + 1)), (1, .int p1), (2, .int p2), (3, .int p3)]) C dX3_round_55 (Nat.le_of_ble_eq_true rfl) rfl ?_
        refine gj_sub (lc' := [(0, rv (t + 1)), (1, .int p1), (2, .int p2), (3, .int p3), (4, .int 0)]) [1, 2, 3, 4, 0] rfl ?_
        exact wq_X3_round_57 B _ _ _ _ _ _ _ hw
      · have hw := it_t hw c19
        refine gj_iconst (v := 0) C dX3_round_52 rfl ?_
        exact gt_iret B hw dX3_round_53

theorem met_X3_round (l : Launch) {d : TD} {t : Nat} {J : Nat → Nat → Int32} {lw : Int64} {p1 : Int32} {p2 : Int32} {p3 : Int32} {Φ : Int32 → (Nat → Nat → Int32) → Int64 → Prop} (hw : wp_X3_round p1 p2 p3 Φ J lw) : MetT l yX3_round prog_11_method_78_code 8 (some .int) 4 92 [.ref t, .int p1, .int p2, .int p3] d t J lw (ansI Φ) :=
  mt_of (by decide +kernel) rfl (Nat.le_of_ble_eq_true rfl) (fun g _ B => wk_X3_round B _ _ _ _ J lw hw)
/-! path(II)I -/
def wp_X3_path (p1 : Int32) (p2 : Int32) (Φ : Int32 → (Nat → Nat → Int32) → Int64 → Prop) (J : Nat → Nat → Int32) (lw : Int64) : Prop :=
(∀ J1 : Nat → Nat → Int32, J1 = u2 J 0 0 0 → (∀ x2 : Int32, x2 = (if p1 < 0 then 0 else (if (J1 0 52) ≤ p1 then 0 else 1)) → (wp_X3_right x2 1 (fun r7 J5 l6 => (if r7 = 0 then Φ 0 J5 l6 else (wp_X3_isTwo p2 (fun r11 J9 l10 => (if r11 = 0 then Φ 0 J9 l10 else (if p2 = 0 then (vp_in p1 (tln 50) ∧ Φ (J9 50 (Int32.toNatClampNeg p1)) J9 l10) else (vp_in p1 (tln 51) ∧ Φ (J9 51 (Int32.toNatClampNeg p1)) J9 l10)))) J5 l6))) J1 lw)))
theorem wk_X3_path {g : Gm} {d : TD} {t : Nat} (B : BdT g d prog_11_method_79_code 3 (some .int) 2 43) (p1 : Int32) (p2 : Int32) (Φ : Int32 → (Nat → Nat → Int32) → Int64 → Prop) (J : Nat → Nat → Int32) (lw : Int64) (hw : wp_X3_path p1 p2 Φ J lw) : GJ g 3 (TP d t J lw (gs g).heap) 0 (TQ g d t (ansI Φ)) 0 [(0, rv (t + 1)), (1, .int p1), (2, .int p2)] [] := by
  unfold wp_X3_path at hw
  have C := B.1
  have hW := B.2.1
  refine gj_aload_n C dX3_path_0 0 rfl ?_
  refine gj_iconst (v := 0) C dX3_path_1 rfl ?_
  refine tp134 C hW dX3_path_2 ?_
  refine gt_nmJ (fun J1 eJ1 => ?_)
  have hw := hw J1 eJ1
  refine gj_aload_n C dX3_path_5 0 rfl ?_
  refine gj_iload_n C dX3_path_6 1 rfl ?_
  have key : ∀ x2 : Int32, x2 = (if p1 < 0 then 0 else (if (J1 0 52) ≤ p1 then 0 else 1)) → GJ g 3 (TP d t J1 lw (gs g).heap) 0 (TQ g d t (ansI Φ)) 23 [(0, rv (t + 1)), (1, .int p1), (2, .int p2)] [.int x2, rv (t + 1)] → GJ g 3 (TP d t J1 lw (gs g).heap) 0 (TQ g d t (ansI Φ)) 7 [(0, rv (t + 1)), (1, .int p1), (2, .int p2)] [.int p1, rv (t + 1)] := by
    intro x2 ex2 kk
    refine gj_if_lt (tgt := 22) C dX3_path_7 rfl (fun c3 => ?_) (fun c3 => ?_)
    · refine gj_iconst (v := 0) C dX3_path_22 rfl ?_
      rw [if_pos c3] at ex2
      subst ex2
      exact kk
    · refine gj_iload_n C dX3_path_10 1 rfl ?_
      refine gj_aload_n C dX3_path_11 0 rfl ?_
      refine tg270 C hW dX3_path_12 ?_
      refine gj_icmp_ge (tgt := 22) C dX3_path_15 rfl (fun c4 => ?_) (fun c4 => ?_)
      · refine gj_iconst (v := 0) C dX3_path_22 rfl ?_
        rw [if_neg c3, if_pos c4] at ex2
        subst ex2
        exact kk
      · refine gj_iconst (v := 1) C dX3_path_18 rfl ?_
        refine gj_goto (tgt := 23) C dX3_path_19 rfl ?_
        rw [if_neg c3, if_neg c4] at ex2
        subst ex2
        exact kk
  obtain ⟨x2, ex2⟩ : ∃ x2 : Int32, x2 = (if p1 < 0 then 0 else (if (J1 0 52) ≤ p1 then 0 else 1)) := ⟨_, rfl⟩
  have bx2 : x2 = 0 ∨ x2 = 1 := by rw [ex2]; (repeat' split) <;> simp
  refine key x2 ex2 ?_
  have hw := hw x2 ex2
  clear key
  refine gj_iconst (v := 1) C dX3_path_23 rfl ?_
  refine tc_X3_right B hw (Nat.le_of_ble_eq_true rfl) (Nat.le_of_ble_eq_true rfl) (Nat.le_of_ble_eq_true rfl) dX3_path_24 (fun r7 J5 l6 br7 hw => ?_)
  refine gj_if_eq (tgt := 38) C dX3_path_27 rfl (fun c8 => ?_) (fun c8 => ?_)
  · have hw := it_t hw c8
    refine gj_iconst (v := 0) C dX3_path_38 rfl ?_
    exact gt_iret B hw dX3_path_39
  · have hw := it_f hw c8
    refine gj_aload_n C dX3_path_30 0 rfl ?_
    refine gj_iload_n C dX3_path_31 2 rfl ?_
    refine tc_X3_isTwo B hw (Nat.le_of_ble_eq_true rfl) (Nat.le_of_ble_eq_true rfl) (Nat.le_of_ble_eq_true rfl) dX3_path_32 (fun r11 J9 l10 br11 hw => ?_)
    refine gj_if_ne (tgt := 40) C dX3_path_35 rfl (fun c12 => ?_) (fun c12 => ?_)
    · have hw := it_f hw c12
      refine gj_iload_n C dX3_path_40 2 rfl ?_
      refine gj_if_ne (tgt := 53) C dX3_path_41 rfl (fun c13 => ?_) (fun c13 => ?_)
      · have hw := it_f hw c13
        refine gj_aload_n C dX3_path_53 0 rfl ?_
        refine tg98 C hW dX3_path_54 ?_
        refine gj_iload_n C dX3_path_57 1 rfl ?_
        obtain ⟨h14, hw⟩ := hw
        refine gt_iald C hW (by decide) h14 dX3_path_58 ?_
        exact gt_iret B hw dX3_path_59
      · have hw := it_t hw c13
        refine gj_aload_n C dX3_path_44 0 rfl ?_
        refine tg95 C hW dX3_path_45 ?_
        refine gj_iload_n C dX3_path_48 1 rfl ?_
        obtain ⟨h15, hw⟩ := hw
        refine gt_iald C hW (by decide) h15 dX3_path_49 ?_
        refine gj_goto (tgt := 59) C dX3_path_50 rfl ?_
        exact gt_iret B hw dX3_path_59
    · have hw := it_t hw c12
      refine gj_iconst (v := 0) C dX3_path_38 rfl ?_
      exact gt_iret B hw dX3_path_39

theorem met_X3_path (l : Launch) {d : TD} {t : Nat} {J : Nat → Nat → Int32} {lw : Int64} {p1 : Int32} {p2 : Int32} {Φ : Int32 → (Nat → Nat → Int32) → Int64 → Prop} (hw : wp_X3_path p1 p2 Φ J lw) : MetT l yX3_path prog_11_method_79_code 3 (some .int) 2 43 [.ref t, .int p1, .int p2] d t J lw (ansI Φ) :=
  mt_of (by decide +kernel) rfl (Nat.le_of_ble_eq_true rfl) (fun g _ B => wk_X3_path B _ _ _ J lw hw)
/-! there(II)I -/
def wf_X3_there_5 (p1 : Int32) (p2 : Int32) (Φ : Int32 → (Nat → Nat → Int32) → Int64 → Prop) (X5 : Int32 → Int32 → (Nat → Nat → Int32) → Int64 → Prop) (v3 : Int32) (v4 : Int32) (J : Nat → Nat → Int32) (lw : Int64) : Prop :=
(if p2 ≤ v4 then Φ v3 J lw else (vp_in v4 (tln 53) ∧ (∀ x3 : Int32, x3 = (if (J 53 (Int32.toNatClampNeg v4)) = p1 then 1 else 0) → (∀ x5 : Int32, x5 = (v3 + x3) → (∀ x6 : Int32, x6 = v4 + 1 → X5 x5 x6 J lw)))))
def wl_X3_there_5 (p1 : Int32) (p2 : Int32) (Φ : Int32 → (Nat → Nat → Int32) → Int64 → Prop) (v3 : Int32) (v4 : Int32) (J : Nat → Nat → Int32) (lw : Int64) : Prop := ∀ X5 : Int32 → Int32 → (Nat → Nat → Int32) → Int64 → Prop, (∀ v3 v4 J lw, wf_X3_there_5 p1 p2 Φ X5 v3 v4 J lw → X5 v3 v4 J lw) → X5 v3 v4 J lw
theorem wk_X3_there_5 {g : Gm} {d : TD} {t : Nat} (B : BdT g d prog_11_method_80_code 5 (some .int) 0 0) (p1 : Int32) (p2 : Int32) (Φ : Int32 → (Nat → Nat → Int32) → Int64 → Prop) (X5 : Int32 → Int32 → (Nat → Nat → Int32) → Int64 → Prop) (hX5 : ∀ v3 v4 J lw, X5 v3 v4 J lw → GJ g 5 (TP d t J lw (gs g).heap) 0 (TQ g d t (ansI Φ)) 5 [(0, rv (t + 1)), (1, .int p1), (2, .int p2), (3, .int v3), (4, .int v4)] []) (v3 : Int32) (v4 : Int32) (J : Nat → Nat → Int32) (lw : Int64) (hw : wf_X3_there_5 p1 p2 Φ X5 v3 v4 J lw) : GJ g 5 (TP d t J lw (gs g).heap) 0 (TQ g d t (ansI Φ)) 5 [(0, rv (t + 1)), (1, .int p1), (2, .int p2), (3, .int v3), (4, .int v4)] [] := by
  unfold wf_X3_there_5 at hw
  have C := B.1
  have hW := B.2.1
  refine gj_iload C dX3_there_5 4 rfl ?_
  refine gj_iload_n C dX3_there_7 2 rfl ?_
  refine gj_icmp_ge (tgt := 36) C dX3_there_8 rfl (fun c1 => ?_) (fun c1 => ?_)
  · have hw := it_t hw c1
    refine gj_iload_n C dX3_there_36 3 rfl ?_
    exact gt_iret B hw dX3_there_37
  · have hw := it_f hw c1
    refine gj_iload_n C dX3_there_11 3 rfl ?_
    refine gj_aload_n C dX3_there_12 0 rfl ?_
    refine tg101 C hW dX3_there_13 ?_
    refine gj_iload C dX3_there_16 4 rfl ?_
    obtain ⟨h2, hw⟩ := hw
    refine gt_iald C hW (by decide) h2 dX3_there_18 ?_
    refine gj_iload_n C dX3_there_19 1 rfl ?_
    have key : ∀ x3 : Int32, x3 = (if (J 53 (Int32.toNatClampNeg v4)) = p1 then 1 else 0) → GJ g 5 (TP d t J lw (gs g).heap) 0 (TQ g d t (ansI Φ)) 28 [(0, rv (t + 1)), (1, .int p1), (2, .int p2), (3, .int v3), (4, .int v4)] [.int x3, .int v3] → GJ g 5 (TP d t J lw (gs g).heap) 0 (TQ g d t (ansI Φ)) 20 [(0, rv (t + 1)), (1, .int p1), (2, .int p2), (3, .int v3), (4, .int v4)] [.int p1, .int (J 53 (Int32.toNatClampNeg v4)), .int v3] := by
      intro x3 ex3 kk
      refine gj_icmp_ne (tgt := 27) C dX3_there_20 rfl (fun c4 => ?_) (fun c4 => ?_)
      · refine gj_iconst (v := 0) C dX3_there_27 rfl ?_
        rw [if_neg c4] at ex3
        subst ex3
        exact kk
      · refine gj_iconst (v := 1) C dX3_there_23 rfl ?_
        refine gj_goto (tgt := 28) C dX3_there_24 rfl ?_
        rw [if_pos c4] at ex3
        subst ex3
        exact kk
    obtain ⟨x3, ex3⟩ : ∃ x3 : Int32, x3 = (if (J 53 (Int32.toNatClampNeg v4)) = p1 then 1 else 0) := ⟨_, rfl⟩
    have bx3 : x3 = 0 ∨ x3 = 1 := by rw [ex3]; (repeat' split) <;> simp
    refine key x3 ex3 ?_
    have hw := hw x3 ex3
    clear key
    refine gj_iadd C dX3_there_28 ?_
    refine gj_topi (fun x5 ex5 => ?_)
    have hw := hw x5 ex5
    refine gj_istore_n (lc' := [(3, .int x5), (0, rv (t + 1)), (1, .int p1), (2, .int p2), (4, .int v4)]) C dX3_there_29 (Nat.le_of_ble_eq_true rfl) rfl ?_
    obtain ⟨x6, ex6⟩ : ∃ x6 : Int32, x6 = v4 + 1 := ⟨_, rfl⟩
    have hw := hw x6 ex6
    refine gj_iinc (lc' := [(4, .int x6), (3, .int x5), (0, rv (t + 1)), (1, .int p1), (2, .int p2)]) (w := 1) (v := x6) C dX3_there_30 4 rfl rfl ex6.symm (Nat.le_of_ble_eq_true rfl) rfl ?_
    refine gj_goto (tgt := 5) C dX3_there_33 rfl ?_
    refine gj_sub (lc' := [(0, rv (t + 1)), (1, .int p1), (2, .int p2), (3, .int x5), (4, .int x6)]) [2, 3, 4, 1, 0] rfl ?_
    exact hX5 _ _ _ _ hw

theorem wq_X3_there_5 {g : Gm} {d : TD} {t : Nat} (B : BdT g d prog_11_method_80_code 5 (some .int) 0 0) (p1 : Int32) (p2 : Int32) (Φ : Int32 → (Nat → Nat → Int32) → Int64 → Prop) (v3 : Int32) (v4 : Int32) (J : Nat → Nat → Int32) (lw : Int64) (hw : wl_X3_there_5 p1 p2 Φ v3 v4 J lw) : GJ g 5 (TP d t J lw (gs g).heap) 0 (TQ g d t (ansI Φ)) 5 [(0, rv (t + 1)), (1, .int p1), (2, .int p2), (3, .int v3), (4, .int v4)] [] :=
  hw (fun v3 v4 J lw => GJ g 5 (TP d t J lw (gs g).heap) 0 (TQ g d t (ansI Φ)) 5 [(0, rv (t + 1)), (1, .int p1), (2, .int p2), (3, .int v3), (4, .int v4)] []) (fun v3 v4 J lw h => wk_X3_there_5 B p1 p2 Φ (fun v3 v4 J lw => GJ g 5 (TP d t J lw (gs g).heap) 0 (TQ g d t (ansI Φ)) 5 [(0, rv (t + 1)), (1, .int p1), (2, .int p2), (3, .int v3), (4, .int v4)] []) (fun v3 v4 J lw h => h) v3 v4 J lw h)
def wp_X3_there (p1 : Int32) (p2 : Int32) (Φ : Int32 → (Nat → Nat → Int32) → Int64 → Prop) (J : Nat → Nat → Int32) (lw : Int64) : Prop :=
wl_X3_there_5 p1 p2 Φ 0 0 J lw
theorem wk_X3_there {g : Gm} {d : TD} {t : Nat} (B : BdT g d prog_11_method_80_code 5 (some .int) 0 0) (p1 : Int32) (p2 : Int32) (Φ : Int32 → (Nat → Nat → Int32) → Int64 → Prop) (J : Nat → Nat → Int32) (lw : Int64) (hw : wp_X3_there p1 p2 Φ J lw) : GJ g 5 (TP d t J lw (gs g).heap) 0 (TQ g d t (ansI Φ)) 0 [(0, rv (t + 1)), (1, .int p1), (2, .int p2)] [] := by
  unfold wp_X3_there at hw
  have C := B.1
  have hW := B.2.1
  refine gj_iconst (v := 0) C dX3_there_0 rfl ?_
  refine gj_istore_n (lc' := [(3, .int 0), (0, rv (t + 1)), (1, .int p1), (2, .int p2)]) C dX3_there_1 (Nat.le_of_ble_eq_true rfl) rfl ?_
  refine gj_iconst (v := 0) C dX3_there_2 rfl ?_
  refine gj_istore (lc' := [(4, .int 0), (3, .int 0), (0, rv (t + 1)), (1, .int p1), (2, .int p2)]) C dX3_there_3 (Nat.le_of_ble_eq_true rfl) rfl ?_
  refine gj_sub (lc' := [(0, rv (t + 1)), (1, .int p1), (2, .int p2), (3, .int 0), (4, .int 0)]) [2, 3, 4, 1, 0] rfl ?_
  exact wq_X3_there_5 B _ _ _ _ _ _ _ hw

theorem met_X3_there (l : Launch) {d : TD} {t : Nat} {J : Nat → Nat → Int32} {lw : Int64} {p1 : Int32} {p2 : Int32} {Φ : Int32 → (Nat → Nat → Int32) → Int64 → Prop} (hw : wp_X3_there p1 p2 Φ J lw) : MetT l yX3_there prog_11_method_80_code 5 (some .int) 0 0 [.ref t, .int p1, .int p2] d t J lw (ansI Φ) :=
  mt_of (by decide +kernel) rfl (Nat.le_of_ble_eq_true rfl) (fun g _ B => wk_X3_there B _ _ _ J lw hw)
theorem tc_X3_there {g : Gm} {d : TD} {t : Nat} {cc : ByteArray} {nL : Nat} {ret : Option FieldType} {fr lo : Nat} (B : BdT g d cc nL ret fr lo) {J : Nat → Nat → Int32} {lw : Int64} {H0 : Heap} {Q : State → Prop} {pc : Nat} {lc : List (Nat × Value)} {rest : List Value} {p1 : Int32} {p2 : Int32} {Φ : Int32 → (Nat → Nat → Int32) → Int64 → Prop} (hw : wp_X3_there p1 p2 Φ J lw) (hf : 1 ≤ fr) (hlo : 24 ≤ lo) (hrest : (rest.map fun v => v.category).sum ≤ 8) (dg : decode cc pc = .ok (.invokevirtual 383, 3)) (k : ∀ (r : Int32) J' lw', Φ r J' lw' → GJ g nL (TP d t J' lw' H0) 0 Q (pc + 3) lc (.int r :: rest)) : GJ g nL (TP d t J lw H0) 0 Q pc lc (.int p2 :: .int p1 :: rv (t + 1) :: rest) :=
  gt_callV (n := 2) (As := [.int p1, .int p2]) B (met_X3_there g.2.1 hw) (lw_V q1715 q1717 qs84 q97 q1718) ⟨rfl, by decide +kernel, by decide +kernel, by decide +kernel⟩ rfl hf hlo ⟨Nat.zero_le _, Nat.zero_le _⟩ rfl hrest dg (fun v J' lw' hp => by obtain ⟨r, rfl, hp⟩ := hp; exact k r J' lw' hp)
/-! isRest(I)Z -/
def wf_X3_isRest_34 (p1 : Int32) (Φ : Int32 → (Nat → Nat → Int32) → Int64 → Prop) (X2 : Int32 → (Nat → Nat → Int32) → Int64 → Prop) (X34 : Int32 → Int32 → Int32 → (Nat → Nat → Int32) → Int64 → Prop) (v2 : Int32) (v3 : Int32) (v4 : Int32) (J : Nat → Nat → Int32) (lw : Int64) : Prop :=
(if (J 0 1) ≤ v4 then (∀ x11 : Int32, x11 = v2 + 1 → X2 x11 J lw) else (vp_in v2 (tln 53) ∧ (if v4 = (J 53 (Int32.toNatClampNeg v2)) then (∀ x14 : Int32, x14 = v4 + 1 → X34 v2 v3 x14 J lw) else (vp_in v4 (tln 55) ∧ (wp_X3_there v4 p1 (fun r18 J16 l17 => (¬ (r18 + 1) = 0 ∧ (if ((J 55 (Int32.toNatClampNeg v4)) / (r18 + 1)) ≤ v3 then (∀ x21 : Int32, x21 = v4 + 1 → X34 v2 v3 x21 J16 l17) else Φ 0 J16 l17))) J lw)))))
def wl_X3_isRest_34 (p1 : Int32) (Φ : Int32 → (Nat → Nat → Int32) → Int64 → Prop) (X2 : Int32 → (Nat → Nat → Int32) → Int64 → Prop) (v2 : Int32) (v3 : Int32) (v4 : Int32) (J : Nat → Nat → Int32) (lw : Int64) : Prop := ∀ X34 : Int32 → Int32 → Int32 → (Nat → Nat → Int32) → Int64 → Prop, (∀ v2 v3 v4 J lw, wf_X3_isRest_34 p1 Φ X2 X34 v2 v3 v4 J lw → X34 v2 v3 v4 J lw) → X34 v2 v3 v4 J lw
theorem wk_X3_isRest_34 {g : Gm} {d : TD} {t : Nat} (B : BdT g d prog_11_method_81_code 5 (some .boolean) 1 24) (p1 : Int32) (Φ : Int32 → (Nat → Nat → Int32) → Int64 → Prop) (X2 : Int32 → (Nat → Nat → Int32) → Int64 → Prop) (X34 : Int32 → Int32 → Int32 → (Nat → Nat → Int32) → Int64 → Prop) (hX2 : ∀ v2 J lw, X2 v2 J lw → GJ g 5 (TP d t J lw (gs g).heap) 0 (TQ g d t (ansZ Φ)) 2 [(0, rv (t + 1)), (1, .int p1), (2, .int v2)] []) (hX34 : ∀ v2 v3 v4 J lw, X34 v2 v3 v4 J lw → GJ g 5 (TP d t J lw (gs g).heap) 0 (TQ g d t (ansZ Φ)) 34 [(0, rv (t + 1)), (1, .int p1), (2, .int v2), (3, .int v3), (4, .int v4)] []) (v2 : Int32) (v3 : Int32) (v4 : Int32) (J : Nat → Nat → Int32) (lw : Int64) (hw : wf_X3_isRest_34 p1 Φ X2 X34 v2 v3 v4 J lw) : GJ g 5 (TP d t J lw (gs g).heap) 0 (TQ g d t (ansZ Φ)) 34 [(0, rv (t + 1)), (1, .int p1), (2, .int v2), (3, .int v3), (4, .int v4)] [] := by
  unfold wf_X3_isRest_34 at hw
  have C := B.1
  have hW := B.2.1
  refine gj_iload C dX3_isRest_34 4 rfl ?_
  refine gj_aload_n C dX3_isRest_36 0 rfl ?_
  refine tg248 C hW dX3_isRest_37 ?_
  refine gj_icmp_ge (tgt := 83) C dX3_isRest_40 rfl (fun c10 => ?_) (fun c10 => ?_)
  · have hw := it_t hw c10
    obtain ⟨x11, ex11⟩ : ∃ x11 : Int32, x11 = v2 + 1 := ⟨_, rfl⟩
    have hw := hw x11 ex11
    refine gj_iinc (lc' := [(2, .int x11), (0, rv (t + 1)), (1, .int p1), (3, .int v3), (4, .int v4)]) (w := 1) (v := x11) C dX3_isRest_83 2 rfl rfl ex11.symm (Nat.le_of_ble_eq_true rfl) rfl ?_
    refine gj_goto (tgt := 2) C dX3_isRest_86 rfl ?_
    refine gj_sub (lc' := [(0, rv (t + 1)), (1, .int p1), (2, .int x11)]) [1, 2, 0] rfl ?_
    exact hX2 _ _ _ hw
  · have hw := it_f hw c10
    refine gj_iload C dX3_isRest_43 4 rfl ?_
    refine gj_aload_n C dX3_isRest_45 0 rfl ?_
    refine tg101 C hW dX3_isRest_46 ?_
    refine gj_iload_n C dX3_isRest_49 2 rfl ?_
    obtain ⟨h12, hw⟩ := hw
    refine gt_iald C hW (by decide) h12 dX3_isRest_50 ?_
    refine gj_icmp_eq (tgt := 77) C dX3_isRest_51 rfl (fun c13 => ?_) (fun c13 => ?_)
    · have hw := it_t hw c13
      obtain ⟨x14, ex14⟩ : ∃ x14 : Int32, x14 = v4 + 1 := ⟨_, rfl⟩
      have hw := hw x14 ex14
      refine gj_iinc (lc' := [(4, .int x14), (0, rv (t + 1)), (1, .int p1), (2, .int v2), (3, .int v3)]) (w := 1) (v := x14) C dX3_isRest_77 4 rfl rfl ex14.symm (Nat.le_of_ble_eq_true rfl) rfl ?_
      refine gj_goto (tgt := 34) C dX3_isRest_80 rfl ?_
      refine gj_sub (lc' := [(0, rv (t + 1)), (1, .int p1), (2, .int v2), (3, .int v3), (4, .int x14)]) [1, 2, 3, 4, 0] rfl ?_
      exact hX34 _ _ _ _ _ hw
    · have hw := it_f hw c13
      refine gj_aload_n C dX3_isRest_54 0 rfl ?_
      refine tg107 C hW dX3_isRest_55 ?_
      refine gj_iload C dX3_isRest_58 4 rfl ?_
      obtain ⟨h15, hw⟩ := hw
      refine gt_iald C hW (by decide) h15 dX3_isRest_60 ?_
      refine gj_aload_n C dX3_isRest_61 0 rfl ?_
      refine gj_iload C dX3_isRest_62 4 rfl ?_
      refine gj_iload_n C dX3_isRest_64 1 rfl ?_
      refine tc_X3_there B hw (Nat.le_of_ble_eq_true rfl) (Nat.le_of_ble_eq_true rfl) (Nat.le_of_ble_eq_true rfl) dX3_isRest_65 (fun r18 J16 l17 hw => ?_)
      refine gj_iconst (v := 1) C dX3_isRest_68 rfl ?_
      refine gj_iadd C dX3_isRest_69 ?_
      obtain ⟨h19, hw⟩ := hw
      refine gj_idiv C dX3_isRest_70 h19 ?_
      refine gj_iload_n C dX3_isRest_71 3 rfl ?_
      refine gj_icmp_le (tgt := 77) C dX3_isRest_72 rfl (fun c20 => ?_) (fun c20 => ?_)
      · have hw := it_t hw c20
        obtain ⟨x21, ex21⟩ : ∃ x21 : Int32, x21 = v4 + 1 := ⟨_, rfl⟩
        have hw := hw x21 ex21
        refine gj_iinc (lc' := [(4, .int x21), (0, rv (t + 1)), (1, .int p1), (2, .int v2), (3, .int v3)]) (w := 1) (v := x21) C dX3_isRest_77 4 rfl rfl ex21.symm (Nat.le_of_ble_eq_true rfl) rfl ?_
        refine gj_goto (tgt := 34) C dX3_isRest_80 rfl ?_
        refine gj_sub (lc' := [(0, rv (t + 1)), (1, .int p1), (2, .int v2), (3, .int v3), (4, .int x21)]) [1, 2, 3, 4, 0] rfl ?_
        exact hX34 _ _ _ _ _ hw
      · have hw := it_f hw c20
        refine gj_iconst (v := 0) C dX3_isRest_75 rfl ?_
        exact gt_zret B (Or.inl rfl) hw dX3_isRest_76

theorem wq_X3_isRest_34 {g : Gm} {d : TD} {t : Nat} (B : BdT g d prog_11_method_81_code 5 (some .boolean) 1 24) (p1 : Int32) (Φ : Int32 → (Nat → Nat → Int32) → Int64 → Prop) (X2 : Int32 → (Nat → Nat → Int32) → Int64 → Prop) (hX2 : ∀ v2 J lw, X2 v2 J lw → GJ g 5 (TP d t J lw (gs g).heap) 0 (TQ g d t (ansZ Φ)) 2 [(0, rv (t + 1)), (1, .int p1), (2, .int v2)] []) (v2 : Int32) (v3 : Int32) (v4 : Int32) (J : Nat → Nat → Int32) (lw : Int64) (hw : wl_X3_isRest_34 p1 Φ X2 v2 v3 v4 J lw) : GJ g 5 (TP d t J lw (gs g).heap) 0 (TQ g d t (ansZ Φ)) 34 [(0, rv (t + 1)), (1, .int p1), (2, .int v2), (3, .int v3), (4, .int v4)] [] :=
  hw (fun v2 v3 v4 J lw => GJ g 5 (TP d t J lw (gs g).heap) 0 (TQ g d t (ansZ Φ)) 34 [(0, rv (t + 1)), (1, .int p1), (2, .int v2), (3, .int v3), (4, .int v4)] []) (fun v2 v3 v4 J lw h => wk_X3_isRest_34 B p1 Φ X2 (fun v2 v3 v4 J lw => GJ g 5 (TP d t J lw (gs g).heap) 0 (TQ g d t (ansZ Φ)) 34 [(0, rv (t + 1)), (1, .int p1), (2, .int v2), (3, .int v3), (4, .int v4)] []) hX2 (fun v2 v3 v4 J lw h => h) v2 v3 v4 J lw h)
def wf_X3_isRest_2 (p1 : Int32) (Φ : Int32 → (Nat → Nat → Int32) → Int64 → Prop) (X2 : Int32 → (Nat → Nat → Int32) → Int64 → Prop) (v2 : Int32) (J : Nat → Nat → Int32) (lw : Int64) : Prop :=
(if p1 ≤ v2 then Φ 1 J lw else (vp_in v2 (tln 53) ∧ (vp_in (J 53 (Int32.toNatClampNeg v2)) (tln 55) ∧ (vp_in v2 (tln 53) ∧ (wp_X3_there (J 53 (Int32.toNatClampNeg v2)) p1 (fun r7 J5 l6 => (¬ r7 = 0 ∧ (∀ x9 : Int32, x9 = ((J 55 (Int32.toNatClampNeg (J 53 (Int32.toNatClampNeg v2)))) / r7) → wl_X3_isRest_34 p1 Φ X2 v2 x9 0 J5 l6))) J lw)))))
def wl_X3_isRest_2 (p1 : Int32) (Φ : Int32 → (Nat → Nat → Int32) → Int64 → Prop) (v2 : Int32) (J : Nat → Nat → Int32) (lw : Int64) : Prop := ∀ X2 : Int32 → (Nat → Nat → Int32) → Int64 → Prop, (∀ v2 J lw, wf_X3_isRest_2 p1 Φ X2 v2 J lw → X2 v2 J lw) → X2 v2 J lw
theorem wk_X3_isRest_2 {g : Gm} {d : TD} {t : Nat} (B : BdT g d prog_11_method_81_code 5 (some .boolean) 1 24) (p1 : Int32) (Φ : Int32 → (Nat → Nat → Int32) → Int64 → Prop) (X2 : Int32 → (Nat → Nat → Int32) → Int64 → Prop) (hX2 : ∀ v2 J lw, X2 v2 J lw → GJ g 5 (TP d t J lw (gs g).heap) 0 (TQ g d t (ansZ Φ)) 2 [(0, rv (t + 1)), (1, .int p1), (2, .int v2)] []) (v2 : Int32) (J : Nat → Nat → Int32) (lw : Int64) (hw : wf_X3_isRest_2 p1 Φ X2 v2 J lw) : GJ g 5 (TP d t J lw (gs g).heap) 0 (TQ g d t (ansZ Φ)) 2 [(0, rv (t + 1)), (1, .int p1), (2, .int v2)] [] := by
  unfold wf_X3_isRest_2 at hw
  have C := B.1
  have hW := B.2.1
  refine gj_iload_n C dX3_isRest_2 2 rfl ?_
  refine gj_iload_n C dX3_isRest_3 1 rfl ?_
  refine gj_icmp_ge (tgt := 89) C dX3_isRest_4 rfl (fun c1 => ?_) (fun c1 => ?_)
  · have hw := it_t hw c1
    refine gj_iconst (v := 1) C dX3_isRest_89 rfl ?_
    exact gt_zret B (Or.inr rfl) hw dX3_isRest_90
  · have hw := it_f hw c1
    refine gj_aload_n C dX3_isRest_7 0 rfl ?_
    refine tg107 C hW dX3_isRest_8 ?_
    refine gj_aload_n C dX3_isRest_11 0 rfl ?_
    refine tg101 C hW dX3_isRest_12 ?_
    refine gj_iload_n C dX3_isRest_15 2 rfl ?_
    obtain ⟨h2, hw⟩ := hw
    refine gt_iald C hW (by decide) h2 dX3_isRest_16 ?_
    obtain ⟨h3, hw⟩ := hw
    refine gt_iald C hW (by decide) h3 dX3_isRest_17 ?_
    refine gj_aload_n C dX3_isRest_18 0 rfl ?_
    refine gj_aload_n C dX3_isRest_19 0 rfl ?_
    refine tg101 C hW dX3_isRest_20 ?_
    refine gj_iload_n C dX3_isRest_23 2 rfl ?_
    obtain ⟨h4, hw⟩ := hw
    refine gt_iald C hW (by decide) h4 dX3_isRest_24 ?_
    refine gj_iload_n C dX3_isRest_25 1 rfl ?_
    refine tc_X3_there B hw (Nat.le_of_ble_eq_true rfl) (Nat.le_of_ble_eq_true rfl) (Nat.le_of_ble_eq_true rfl) dX3_isRest_26 (fun r7 J5 l6 hw => ?_)
    obtain ⟨h8, hw⟩ := hw
    refine gj_idiv C dX3_isRest_29 h8 ?_
    refine gj_topi (fun x9 ex9 => ?_)
    have hw := hw x9 ex9
    refine gj_istore_n (lc' := [(3, .int x9), (0, rv (t + 1)), (1, .int p1), (2, .int v2)]) C dX3_isRest_30 (Nat.le_of_ble_eq_true rfl) rfl ?_
    refine gj_iconst (v := 0) C dX3_isRest_31 rfl ?_
    refine gj_istore (lc' := [(4, .int 0), (3, .int x9), (0, rv (t + 1)), (1, .int p1), (2, .int v2)]) C dX3_isRest_32 (Nat.le_of_ble_eq_true rfl) rfl ?_
    refine gj_sub (lc' := [(0, rv (t + 1)), (1, .int p1), (2, .int v2), (3, .int x9), (4, .int 0)]) [2, 3, 4, 1, 0] rfl ?_
    exact wq_X3_isRest_34 B _ _ _ hX2 _ _ _ _ _ hw

theorem wq_X3_isRest_2 {g : Gm} {d : TD} {t : Nat} (B : BdT g d prog_11_method_81_code 5 (some .boolean) 1 24) (p1 : Int32) (Φ : Int32 → (Nat → Nat → Int32) → Int64 → Prop) (v2 : Int32) (J : Nat → Nat → Int32) (lw : Int64) (hw : wl_X3_isRest_2 p1 Φ v2 J lw) : GJ g 5 (TP d t J lw (gs g).heap) 0 (TQ g d t (ansZ Φ)) 2 [(0, rv (t + 1)), (1, .int p1), (2, .int v2)] [] :=
  hw (fun v2 J lw => GJ g 5 (TP d t J lw (gs g).heap) 0 (TQ g d t (ansZ Φ)) 2 [(0, rv (t + 1)), (1, .int p1), (2, .int v2)] []) (fun v2 J lw h => wk_X3_isRest_2 B p1 Φ (fun v2 J lw => GJ g 5 (TP d t J lw (gs g).heap) 0 (TQ g d t (ansZ Φ)) 2 [(0, rv (t + 1)), (1, .int p1), (2, .int v2)] []) (fun v2 J lw h => h) v2 J lw h)
def wp_X3_isRest (p1 : Int32) (Φ : Int32 → (Nat → Nat → Int32) → Int64 → Prop) (J : Nat → Nat → Int32) (lw : Int64) : Prop :=
wl_X3_isRest_2 p1 Φ 0 J lw
theorem wk_X3_isRest {g : Gm} {d : TD} {t : Nat} (B : BdT g d prog_11_method_81_code 5 (some .boolean) 1 24) (p1 : Int32) (Φ : Int32 → (Nat → Nat → Int32) → Int64 → Prop) (J : Nat → Nat → Int32) (lw : Int64) (hw : wp_X3_isRest p1 Φ J lw) : GJ g 5 (TP d t J lw (gs g).heap) 0 (TQ g d t (ansZ Φ)) 0 [(0, rv (t + 1)), (1, .int p1)] [] := by
  unfold wp_X3_isRest at hw
  have C := B.1
  have hW := B.2.1
  refine gj_iconst (v := 0) C dX3_isRest_0 rfl ?_
  refine gj_istore_n (lc' := [(2, .int 0), (0, rv (t + 1)), (1, .int p1)]) C dX3_isRest_1 (Nat.le_of_ble_eq_true rfl) rfl ?_
  refine gj_sub (lc' := [(0, rv (t + 1)), (1, .int p1), (2, .int 0)]) [1, 2, 0] rfl ?_
  exact wq_X3_isRest_2 B _ _ _ _ _ hw

theorem met_X3_isRest (l : Launch) {d : TD} {t : Nat} {J : Nat → Nat → Int32} {lw : Int64} {p1 : Int32} {Φ : Int32 → (Nat → Nat → Int32) → Int64 → Prop} (hw : wp_X3_isRest p1 Φ J lw) : MetT l yX3_isRest prog_11_method_81_code 5 (some .boolean) 1 24 [.ref t, .int p1] d t J lw (ansZ Φ) :=
  mt_of (by decide +kernel) rfl (Nat.le_of_ble_eq_true rfl) (fun g _ B => wk_X3_isRest B _ _ J lw hw)
theorem tc_X3_isRest {g : Gm} {d : TD} {t : Nat} {cc : ByteArray} {nL : Nat} {ret : Option FieldType} {fr lo : Nat} (B : BdT g d cc nL ret fr lo) {J : Nat → Nat → Int32} {lw : Int64} {H0 : Heap} {Q : State → Prop} {pc : Nat} {lc : List (Nat × Value)} {rest : List Value} {p1 : Int32} {Φ : Int32 → (Nat → Nat → Int32) → Int64 → Prop} (hw : wp_X3_isRest p1 Φ J lw) (hf : 2 ≤ fr) (hlo : 48 ≤ lo) (hrest : (rest.map fun v => v.category).sum ≤ 8) (dg : decode cc pc = .ok (.invokevirtual 386, 3)) (k : ∀ (r : Int32) J' lw', (r = 0 ∨ r = 1) → Φ r J' lw' → GJ g nL (TP d t J' lw' H0) 0 Q (pc + 3) lc (.int r :: rest)) : GJ g nL (TP d t J lw H0) 0 Q pc lc (.int p1 :: rv (t + 1) :: rest) :=
  gt_callV (n := 1) (As := [.int p1]) B (met_X3_isRest g.2.1 hw) (lw_V q1711 q1713 qs83 q97 q1714) ⟨rfl, by decide +kernel, by decide +kernel, by decide +kernel⟩ rfl hf hlo ⟨Nat.zero_le _, Nat.zero_le _⟩ rfl hrest dg (fun v J' lw' hp => by obtain ⟨r, rfl, hb, hp⟩ := hp; exact k r J' lw' hb hp)
/-! rests(III)I -/
def wf_X3_rests_141 (p1 : Int32) (p2 : Int32) (p3 : Int32) (Φ : Int32 → (Nat → Nat → Int32) → Int64 → Prop) (X125 : Int32 → Int32 → Int32 → (Nat → Nat → Int32) → Int64 → Prop) (X141 : Int32 → Int32 → Int32 → Int32 → Int32 → (Nat → Nat → Int32) → Int64 → Prop) (v4 : Int32) (v5 : Int32) (v6 : Int32) (v7 : Int32) (v8 : Int32) (J : Nat → Nat → Int32) (lw : Int64) : Prop :=
(if v8 < 0 then (wp_X3_isRest p2 (fun r35 J33 l34 => (if r35 = 0 then (∀ x45 : Int32, x45 = v6 + 1 → X125 v4 v5 x45 J33 l34) else (if v5 = 0 then (wp_X3_copies 53 54 (fun J40 l41 => (∀ x43 : Int32, x43 = v5 + 1 → (∀ x44 : Int32, x44 = v6 + 1 → X125 v4 x43 x44 J40 l41))) J33 l34) else (∀ x38 : Int32, x38 = v5 + 1 → (∀ x39 : Int32, x39 = v6 + 1 → X125 v4 x38 x39 J33 l34))))) J lw) else (¬ (J 0 1) = 0 ∧ (vp_in v8 (tln 53) ∧ (∀ J48 : Nat → Nat → Int32, J48 = u2 J 53 (Int32.toNatClampNeg v8) (v7 - v7 / (J 0 1) * (J 0 1)) → (¬ (J48 0 1) = 0 ∧ (∀ x50 : Int32, x50 = (v7 / (J48 0 1)) → (∀ x51 : Int32, x51 = v8 + (-1) → X141 v4 v5 v6 x50 x51 J48 lw)))))))
def wl_X3_rests_141 (p1 : Int32) (p2 : Int32) (p3 : Int32) (Φ : Int32 → (Nat → Nat → Int32) → Int64 → Prop) (X125 : Int32 → Int32 → Int32 → (Nat → Nat → Int32) → Int64 → Prop) (v4 : Int32) (v5 : Int32) (v6 : Int32) (v7 : Int32) (v8 : Int32) (J : Nat → Nat → Int32) (lw : Int64) : Prop := ∀ X141 : Int32 → Int32 → Int32 → Int32 → Int32 → (Nat → Nat → Int32) → Int64 → Prop, (∀ v4 v5 v6 v7 v8 J lw, wf_X3_rests_141 p1 p2 p3 Φ X125 X141 v4 v5 v6 v7 v8 J lw → X141 v4 v5 v6 v7 v8 J lw) → X141 v4 v5 v6 v7 v8 J lw
theorem wk_X3_rests_141 {g : Gm} {d : TD} {t : Nat} (B : BdT g d prog_11_method_82_code 9 (some .int) 4 92) (p1 : Int32) (p2 : Int32) (p3 : Int32) (Φ : Int32 → (Nat → Nat → Int32) → Int64 → Prop) (X125 : Int32 → Int32 → Int32 → (Nat → Nat → Int32) → Int64 → Prop) (X141 : Int32 → Int32 → Int32 → Int32 → Int32 → (Nat → Nat → Int32) → Int64 → Prop) (hX125 : ∀ v4 v5 v6 J lw, X125 v4 v5 v6 J lw → GJ g 9 (TP d t J lw (gs g).heap) 0 (TQ g d t (ansI Φ)) 125 [(0, rv (t + 1)), (2, .int p2), (3, .int p3), (4, .int v4), (5, .int v5), (6, .int v6)] []) (hX141 : ∀ v4 v5 v6 v7 v8 J lw, X141 v4 v5 v6 v7 v8 J lw → GJ g 9 (TP d t J lw (gs g).heap) 0 (TQ g d t (ansI Φ)) 141 [(0, rv (t + 1)), (2, .int p2), (3, .int p3), (4, .int v4), (5, .int v5), (6, .int v6), (7, .int v7), (8, .int v8)] []) (v4 : Int32) (v5 : Int32) (v6 : Int32) (v7 : Int32) (v8 : Int32) (J : Nat → Nat → Int32) (lw : Int64) (hw : wf_X3_rests_141 p1 p2 p3 Φ X125 X141 v4 v5 v6 v7 v8 J lw) : GJ g 9 (TP d t J lw (gs g).heap) 0 (TQ g d t (ansI Φ)) 141 [(0, rv (t + 1)), (2, .int p2), (3, .int p3), (4, .int v4), (5, .int v5), (6, .int v6), (7, .int v7), (8, .int v8)] [] := by
  unfold wf_X3_rests_141 at hw
  have C := B.1
  have hW := B.2.1
  refine gj_iload C dX3_rests_141 7 rfl ?_
  refine gj_if_lt (tgt := 175) C dX3_rests_143 rfl (fun c32 => ?_) (fun c32 => ?_)
  · have hw := it_t hw c32
    refine gj_aload_n C dX3_rests_175 0 rfl ?_
    refine gj_iload_n C dX3_rests_176 1 rfl ?_
    refine tc_X3_isRest B hw (Nat.le_of_ble_eq_true rfl) (Nat.le_of_ble_eq_true rfl) (Nat.le_of_ble_eq_true rfl) dX3_rests_177 (fun r35 J33 l34 br35 hw => ?_)
    refine gj_if_ne (tgt := 186) C dX3_rests_180 rfl (fun c36 => ?_) (fun c36 => ?_)
    · have hw := it_f hw c36
      refine gj_iload C dX3_rests_186 4 rfl ?_
      refine gj_if_ne (tgt := 203) C dX3_rests_188 rfl (fun c37 => ?_) (fun c37 => ?_)
      · have hw := it_f hw c37
        obtain ⟨x38, ex38⟩ : ∃ x38 : Int32, x38 = v5 + 1 := ⟨_, rfl⟩
        have hw := hw x38 ex38
        refine gj_iinc (lc' := [(5, .int x38), (0, rv (t + 1)), (2, .int p2), (3, .int p3), (4, .int v4), (6, .int v6), (7, .int v7), (8, .int v8)]) (w := 1) (v := x38) C dX3_rests_203 4 rfl rfl ex38.symm (Nat.le_of_ble_eq_true rfl) rfl ?_
        obtain ⟨x39, ex39⟩ : ∃ x39 : Int32, x39 = v6 + 1 := ⟨_, rfl⟩
        have hw := hw x39 ex39
        refine gj_iinc (lc' := [(6, .int x39), (5, .int x38), (0, rv (t + 1)), (2, .int p2), (3, .int p3), (4, .int v4), (7, .int v7), (8, .int v8)]) (w := 1) (v := x39) C dX3_rests_206 5 rfl rfl ex39.symm (Nat.le_of_ble_eq_true rfl) rfl ?_
        refine gj_goto (tgt := 125) C dX3_rests_209 rfl ?_
        refine gj_sub (lc' := [(0, rv (t + 1)), (2, .int p2), (3, .int p3), (4, .int v4), (5, .int x38), (6, .int x39)]) [2, 3, 4, 5, 1, 0] rfl ?_
        exact hX125 _ _ _ _ _ hw
      · have hw := it_t hw c37
        refine gj_aload_n C dX3_rests_191 0 rfl ?_
        refine gj_aload_n C dX3_rests_192 0 rfl ?_
        refine tg101 C hW dX3_rests_193 ?_
        refine gj_aload_n C dX3_rests_196 0 rfl ?_
        refine tg104 C hW dX3_rests_197 ?_
        refine tc_X3_copies B hw (Nat.le_of_ble_eq_true rfl) (Nat.le_of_ble_eq_true rfl) (Nat.le_of_ble_eq_true rfl) dX3_rests_200 (fun J40 l41 hw => ?_)
        obtain ⟨x43, ex43⟩ : ∃ x43 : Int32, x43 = v5 + 1 := ⟨_, rfl⟩
        have hw := hw x43 ex43
        refine gj_iinc (lc' := [(5, .int x43), (0, rv (t + 1)), (2, .int p2), (3, .int p3), (4, .int v4), (6, .int v6), (7, .int v7), (8, .int v8)]) (w := 1) (v := x43) C dX3_rests_203 4 rfl rfl ex43.symm (Nat.le_of_ble_eq_true rfl) rfl ?_
        obtain ⟨x44, ex44⟩ : ∃ x44 : Int32, x44 = v6 + 1 := ⟨_, rfl⟩
        have hw := hw x44 ex44
        refine gj_iinc (lc' := [(6, .int x44), (5, .int x43), (0, rv (t + 1)), (2, .int p2), (3, .int p3), (4, .int v4), (7, .int v7), (8, .int v8)]) (w := 1) (v := x44) C dX3_rests_206 5 rfl rfl ex44.symm (Nat.le_of_ble_eq_true rfl) rfl ?_
        refine gj_goto (tgt := 125) C dX3_rests_209 rfl ?_
        refine gj_sub (lc' := [(0, rv (t + 1)), (2, .int p2), (3, .int p3), (4, .int v4), (5, .int x43), (6, .int x44)]) [2, 3, 4, 5, 1, 0] rfl ?_
        exact hX125 _ _ _ _ _ hw
    · have hw := it_t hw c36
      refine gj_goto (tgt := 206) C dX3_rests_183 rfl ?_
      obtain ⟨x45, ex45⟩ : ∃ x45 : Int32, x45 = v6 + 1 := ⟨_, rfl⟩
      have hw := hw x45 ex45
      refine gj_iinc (lc' := [(6, .int x45), (0, rv (t + 1)), (2, .int p2), (3, .int p3), (4, .int v4), (5, .int v5), (7, .int v7), (8, .int v8)]) (w := 1) (v := x45) C dX3_rests_206 5 rfl rfl ex45.symm (Nat.le_of_ble_eq_true rfl) rfl ?_
      refine gj_goto (tgt := 125) C dX3_rests_209 rfl ?_
      refine gj_sub (lc' := [(0, rv (t + 1)), (2, .int p2), (3, .int p3), (4, .int v4), (5, .int v5), (6, .int x45)]) [1, 2, 3, 4, 5, 0] rfl ?_
      exact hX125 _ _ _ _ _ hw
  · have hw := it_f hw c32
    refine gj_aload_n C dX3_rests_146 0 rfl ?_
    refine tg101 C hW dX3_rests_147 ?_
    refine gj_iload C dX3_rests_150 7 rfl ?_
    refine gj_iload C dX3_rests_152 6 rfl ?_
    refine gj_aload_n C dX3_rests_154 0 rfl ?_
    refine tg248 C hW dX3_rests_155 ?_
    obtain ⟨h46, hw⟩ := hw
    refine gj_irem C dX3_rests_158 h46 ?_
    obtain ⟨h47, hw⟩ := hw
    refine gt_iast C hW (by decide) h47 dX3_rests_159 ?_
    refine gt_nmJ (fun J48 eJ48 => ?_)
    have hw := hw J48 eJ48
    refine gj_iload C dX3_rests_160 6 rfl ?_
    refine gj_aload_n C dX3_rests_162 0 rfl ?_
    refine tg248 C hW dX3_rests_163 ?_
    obtain ⟨h49, hw⟩ := hw
    refine gj_idiv C dX3_rests_166 h49 ?_
    refine gj_topi (fun x50 ex50 => ?_)
    have hw := hw x50 ex50
    refine gj_istore (lc' := [(7, .int x50), (0, rv (t + 1)), (2, .int p2), (3, .int p3), (4, .int v4), (5, .int v5), (6, .int v6), (8, .int v8)]) C dX3_rests_167 (Nat.le_of_ble_eq_true rfl) rfl ?_
    obtain ⟨x51, ex51⟩ : ∃ x51 : Int32, x51 = v8 + (-1) := ⟨_, rfl⟩
    have hw := hw x51 ex51
    refine gj_iinc (lc' := [(8, .int x51), (7, .int x50), (0, rv (t + 1)), (2, .int p2), (3, .int p3), (4, .int v4), (5, .int v5), (6, .int v6)]) (w := (-1)) (v := x51) C dX3_rests_169 7 rfl rfl ex51.symm (Nat.le_of_ble_eq_true rfl) rfl ?_
    refine gj_goto (tgt := 141) C dX3_rests_172 rfl ?_
    refine gj_sub (lc' := [(0, rv (t + 1)), (2, .int p2), (3, .int p3), (4, .int v4), (5, .int v5), (6, .int v6), (7, .int x50), (8, .int x51)]) [2, 3, 4, 5, 6, 7, 1, 0] rfl ?_
    exact hX141 _ _ _ _ _ _ _ hw

theorem wq_X3_rests_141 {g : Gm} {d : TD} {t : Nat} (B : BdT g d prog_11_method_82_code 9 (some .int) 4 92) (p1 : Int32) (p2 : Int32) (p3 : Int32) (Φ : Int32 → (Nat → Nat → Int32) → Int64 → Prop) (X125 : Int32 → Int32 → Int32 → (Nat → Nat → Int32) → Int64 → Prop) (hX125 : ∀ v4 v5 v6 J lw, X125 v4 v5 v6 J lw → GJ g 9 (TP d t J lw (gs g).heap) 0 (TQ g d t (ansI Φ)) 125 [(0, rv (t + 1)), (2, .int p2), (3, .int p3), (4, .int v4), (5, .int v5), (6, .int v6)] []) (v4 : Int32) (v5 : Int32) (v6 : Int32) (v7 : Int32) (v8 : Int32) (J : Nat → Nat → Int32) (lw : Int64) (hw : wl_X3_rests_141 p1 p2 p3 Φ X125 v4 v5 v6 v7 v8 J lw) : GJ g 9 (TP d t J lw (gs g).heap) 0 (TQ g d t (ansI Φ)) 141 [(0, rv (t + 1)), (2, .int p2), (3, .int p3), (4, .int v4), (5, .int v5), (6, .int v6), (7, .int v7), (8, .int v8)] [] :=
  hw (fun v4 v5 v6 v7 v8 J lw => GJ g 9 (TP d t J lw (gs g).heap) 0 (TQ g d t (ansI Φ)) 141 [(0, rv (t + 1)), (2, .int p2), (3, .int p3), (4, .int v4), (5, .int v5), (6, .int v6), (7, .int v7), (8, .int v8)] []) (fun v4 v5 v6 v7 v8 J lw h => wk_X3_rests_141 B p1 p2 p3 Φ X125 (fun v4 v5 v6 v7 v8 J lw => GJ g 9 (TP d t J lw (gs g).heap) 0 (TQ g d t (ansI Φ)) 141 [(0, rv (t + 1)), (2, .int p2), (3, .int p3), (4, .int v4), (5, .int v5), (6, .int v6), (7, .int v7), (8, .int v8)] []) hX125 (fun v4 v5 v6 v7 v8 J lw h => h) v4 v5 v6 v7 v8 J lw h)
def wf_X3_rests_125 (p1 : Int32) (p2 : Int32) (p3 : Int32) (Φ : Int32 → (Nat → Nat → Int32) → Int64 → Prop) (X125 : Int32 → Int32 → Int32 → (Nat → Nat → Int32) → Int64 → Prop) (v4 : Int32) (v5 : Int32) (v6 : Int32) (J : Nat → Nat → Int32) (lw : Int64) : Prop :=
(if v4 ≤ v6 then (if p3 = (-1) then Φ v5 J lw else (∀ x24 : Int32, x24 = (if v5 ≤ 0 then 0 else 1) → (wp_X3_right x24 1 (fun r28 J26 l27 => (if r28 = 0 then Φ 0 J26 l27 else (vp_in p3 (tln 54) ∧ Φ (J26 54 (Int32.toNatClampNeg p3)) J26 l27))) J lw))) else (∀ x31 : Int32, x31 = (p2 - 1) → wl_X3_rests_141 p1 p2 p3 Φ X125 v4 v5 v6 v6 x31 J lw))
def wl_X3_rests_125 (p1 : Int32) (p2 : Int32) (p3 : Int32) (Φ : Int32 → (Nat → Nat → Int32) → Int64 → Prop) (v4 : Int32) (v5 : Int32) (v6 : Int32) (J : Nat → Nat → Int32) (lw : Int64) : Prop := ∀ X125 : Int32 → Int32 → Int32 → (Nat → Nat → Int32) → Int64 → Prop, (∀ v4 v5 v6 J lw, wf_X3_rests_125 p1 p2 p3 Φ X125 v4 v5 v6 J lw → X125 v4 v5 v6 J lw) → X125 v4 v5 v6 J lw
theorem wk_X3_rests_125 {g : Gm} {d : TD} {t : Nat} (B : BdT g d prog_11_method_82_code 9 (some .int) 4 92) (p1 : Int32) (p2 : Int32) (p3 : Int32) (Φ : Int32 → (Nat → Nat → Int32) → Int64 → Prop) (X125 : Int32 → Int32 → Int32 → (Nat → Nat → Int32) → Int64 → Prop) (hX125 : ∀ v4 v5 v6 J lw, X125 v4 v5 v6 J lw → GJ g 9 (TP d t J lw (gs g).heap) 0 (TQ g d t (ansI Φ)) 125 [(0, rv (t + 1)), (2, .int p2), (3, .int p3), (4, .int v4), (5, .int v5), (6, .int v6)] []) (v4 : Int32) (v5 : Int32) (v6 : Int32) (J : Nat → Nat → Int32) (lw : Int64) (hw : wf_X3_rests_125 p1 p2 p3 Φ X125 v4 v5 v6 J lw) : GJ g 9 (TP d t J lw (gs g).heap) 0 (TQ g d t (ansI Φ)) 125 [(0, rv (t + 1)), (2, .int p2), (3, .int p3), (4, .int v4), (5, .int v5), (6, .int v6)] [] := by
  unfold wf_X3_rests_125 at hw
  have C := B.1
  have hW := B.2.1
  refine gj_iload C dX3_rests_125 5 rfl ?_
  refine gj_iload C dX3_rests_127 3 rfl ?_
  refine gj_icmp_ge (tgt := 212) C dX3_rests_129 rfl (fun c22 => ?_) (fun c22 => ?_)
  · have hw := it_t hw c22
    refine gj_iload_n C dX3_rests_212 2 rfl ?_
    refine gj_iconst (v := (-1)) C dX3_rests_213 rfl ?_
    refine gj_icmp_ne (tgt := 220) C dX3_rests_214 rfl (fun c23 => ?_) (fun c23 => ?_)
    · have hw := it_f hw c23
      refine gj_aload_n C dX3_rests_220 0 rfl ?_
      refine gj_iload C dX3_rests_221 4 rfl ?_
      have key : ∀ x24 : Int32, x24 = (if v5 ≤ 0 then 0 else 1) → GJ g 9 (TP d t J lw (gs g).heap) 0 (TQ g d t (ansI Φ)) 231 [(0, rv (t + 1)), (2, .int p2), (3, .int p3), (4, .int v4), (5, .int v5), (6, .int v6)] [.int x24, rv (t + 1)] → GJ g 9 (TP d t J lw (gs g).heap) 0 (TQ g d t (ansI Φ)) 223 [(0, rv (t + 1)), (2, .int p2), (3, .int p3), (4, .int v4), (5, .int v5), (6, .int v6)] [.int v5, rv (t + 1)] := by
        intro x24 ex24 kk
        refine gj_if_le (tgt := 230) C dX3_rests_223 rfl (fun c25 => ?_) (fun c25 => ?_)
        · refine gj_iconst (v := 0) C dX3_rests_230 rfl ?_
          rw [if_pos c25] at ex24
          subst ex24
          exact kk
        · refine gj_iconst (v := 1) C dX3_rests_226 rfl ?_
          refine gj_goto (tgt := 231) C dX3_rests_227 rfl ?_
          rw [if_neg c25] at ex24
          subst ex24
          exact kk
      obtain ⟨x24, ex24⟩ : ∃ x24 : Int32, x24 = (if v5 ≤ 0 then 0 else 1) := ⟨_, rfl⟩
      have bx24 : x24 = 0 ∨ x24 = 1 := by rw [ex24]; (repeat' split) <;> simp
      refine key x24 ex24 ?_
      have hw := hw x24 ex24
      clear key
      refine gj_iconst (v := 1) C dX3_rests_231 rfl ?_
      refine tc_X3_right B hw (Nat.le_of_ble_eq_true rfl) (Nat.le_of_ble_eq_true rfl) (Nat.le_of_ble_eq_true rfl) dX3_rests_232 (fun r28 J26 l27 br28 hw => ?_)
      refine gj_if_eq (tgt := 247) C dX3_rests_235 rfl (fun c29 => ?_) (fun c29 => ?_)
      · have hw := it_t hw c29
        refine gj_iconst (v := 0) C dX3_rests_247 rfl ?_
        exact gt_iret B hw dX3_rests_248
      · have hw := it_f hw c29
        refine gj_aload_n C dX3_rests_238 0 rfl ?_
        refine tg104 C hW dX3_rests_239 ?_
        refine gj_iload_n C dX3_rests_242 2 rfl ?_
        obtain ⟨h30, hw⟩ := hw
        refine gt_iald C hW (by decide) h30 dX3_rests_243 ?_
        refine gj_goto (tgt := 248) C dX3_rests_244 rfl ?_
        exact gt_iret B hw dX3_rests_248
    · have hw := it_t hw c23
      refine gj_iload C dX3_rests_217 4 rfl ?_
      exact gt_iret B hw dX3_rests_219
  · have hw := it_f hw c22
    refine gj_iload C dX3_rests_132 5 rfl ?_
    refine gj_istore (lc' := [(7, .int v6), (0, rv (t + 1)), (2, .int p2), (3, .int p3), (4, .int v4), (5, .int v5), (6, .int v6)]) C dX3_rests_134 (Nat.le_of_ble_eq_true rfl) rfl ?_
    refine gj_iload_n C dX3_rests_136 2 rfl ?_
    refine gj_iconst (v := 1) C dX3_rests_137 rfl ?_
    refine gj_isub C dX3_rests_138 ?_
    refine gj_topi (fun x31 ex31 => ?_)
    have hw := hw x31 ex31
    refine gj_istore (lc' := [(8, .int x31), (7, .int v6), (0, rv (t + 1)), (2, .int p2), (3, .int p3), (4, .int v4), (5, .int v5), (6, .int v6)]) C dX3_rests_139 (Nat.le_of_ble_eq_true rfl) rfl ?_
    refine gj_sub (lc' := [(0, rv (t + 1)), (2, .int p2), (3, .int p3), (4, .int v4), (5, .int v5), (6, .int v6), (7, .int v6), (8, .int x31)]) [2, 3, 4, 5, 6, 7, 1, 0] rfl ?_
    exact wq_X3_rests_141 B _ _ _ _ _ hX125 _ _ _ _ _ _ _ hw

theorem wq_X3_rests_125 {g : Gm} {d : TD} {t : Nat} (B : BdT g d prog_11_method_82_code 9 (some .int) 4 92) (p1 : Int32) (p2 : Int32) (p3 : Int32) (Φ : Int32 → (Nat → Nat → Int32) → Int64 → Prop) (v4 : Int32) (v5 : Int32) (v6 : Int32) (J : Nat → Nat → Int32) (lw : Int64) (hw : wl_X3_rests_125 p1 p2 p3 Φ v4 v5 v6 J lw) : GJ g 9 (TP d t J lw (gs g).heap) 0 (TQ g d t (ansI Φ)) 125 [(0, rv (t + 1)), (2, .int p2), (3, .int p3), (4, .int v4), (5, .int v5), (6, .int v6)] [] :=
  hw (fun v4 v5 v6 J lw => GJ g 9 (TP d t J lw (gs g).heap) 0 (TQ g d t (ansI Φ)) 125 [(0, rv (t + 1)), (2, .int p2), (3, .int p3), (4, .int v4), (5, .int v5), (6, .int v6)] []) (fun v4 v5 v6 J lw h => wk_X3_rests_125 B p1 p2 p3 Φ (fun v4 v5 v6 J lw => GJ g 9 (TP d t J lw (gs g).heap) 0 (TQ g d t (ansI Φ)) 125 [(0, rv (t + 1)), (2, .int p2), (3, .int p3), (4, .int v4), (5, .int v5), (6, .int v6)] []) (fun v4 v5 v6 J lw h => h) v4 v5 v6 J lw h)
def wf_X3_rests_98 (p1 : Int32) (p2 : Int32) (p3 : Int32) (Φ : Int32 → (Nat → Nat → Int32) → Int64 → Prop) (X98 : Int32 → Int32 → (Nat → Nat → Int32) → Int64 → Prop) (v4 : Int32) (v5 : Int32) (J : Nat → Nat → Int32) (lw : Int64) : Prop :=
(if p2 ≤ v5 then wl_X3_rests_125 p1 p2 p3 Φ v4 0 0 J lw else (∀ x52 : Int32, x52 = (v4 * (J 0 1)) → (∀ x53 : Int32, x53 = v5 + 1 → X98 x52 x53 J lw)))
def wl_X3_rests_98 (p1 : Int32) (p2 : Int32) (p3 : Int32) (Φ : Int32 → (Nat → Nat → Int32) → Int64 → Prop) (v4 : Int32) (v5 : Int32) (J : Nat → Nat → Int32) (lw : Int64) : Prop := ∀ X98 : Int32 → Int32 → (Nat → Nat → Int32) → Int64 → Prop, (∀ v4 v5 J lw, wf_X3_rests_98 p1 p2 p3 Φ X98 v4 v5 J lw → X98 v4 v5 J lw) → X98 v4 v5 J lw
theorem wk_X3_rests_98 {g : Gm} {d : TD} {t : Nat} (B : BdT g d prog_11_method_82_code 9 (some .int) 4 92) (p1 : Int32) (p2 : Int32) (p3 : Int32) (Φ : Int32 → (Nat → Nat → Int32) → Int64 → Prop) (X98 : Int32 → Int32 → (Nat → Nat → Int32) → Int64 → Prop) (hX98 : ∀ v4 v5 J lw, X98 v4 v5 J lw → GJ g 9 (TP d t J lw (gs g).heap) 0 (TQ g d t (ansI Φ)) 98 [(0, rv (t + 1)), (2, .int p2), (3, .int p3), (4, .int v4), (5, .int v5)] []) (v4 : Int32) (v5 : Int32) (J : Nat → Nat → Int32) (lw : Int64) (hw : wf_X3_rests_98 p1 p2 p3 Φ X98 v4 v5 J lw) : GJ g 9 (TP d t J lw (gs g).heap) 0 (TQ g d t (ansI Φ)) 98 [(0, rv (t + 1)), (2, .int p2), (3, .int p3), (4, .int v4), (5, .int v5)] [] := by
  unfold wf_X3_rests_98 at hw
  have C := B.1
  have hW := B.2.1
  refine gj_iload C dX3_rests_98 4 rfl ?_
  refine gj_iload_n C dX3_rests_100 1 rfl ?_
  refine gj_icmp_ge (tgt := 119) C dX3_rests_101 rfl (fun c21 => ?_) (fun c21 => ?_)
  · have hw := it_t hw c21
    refine gj_iconst (v := 0) C dX3_rests_119 rfl ?_
    refine gj_istore (lc' := [(5, .int 0), (0, rv (t + 1)), (2, .int p2), (3, .int p3), (4, .int v4)]) C dX3_rests_120 (Nat.le_of_ble_eq_true rfl) rfl ?_
    refine gj_iconst (v := 0) C dX3_rests_122 rfl ?_
    refine gj_istore (lc' := [(6, .int 0), (5, .int 0), (0, rv (t + 1)), (2, .int p2), (3, .int p3), (4, .int v4)]) C dX3_rests_123 (Nat.le_of_ble_eq_true rfl) rfl ?_
    refine gj_sub (lc' := [(0, rv (t + 1)), (2, .int p2), (3, .int p3), (4, .int v4), (5, .int 0), (6, .int 0)]) [2, 3, 4, 5, 1, 0] rfl ?_
    exact wq_X3_rests_125 B _ _ _ _ _ _ _ _ _ hw
  · have hw := it_f hw c21
    refine gj_iload C dX3_rests_104 3 rfl ?_
    refine gj_aload_n C dX3_rests_106 0 rfl ?_
    refine tg248 C hW dX3_rests_107 ?_
    refine gj_imul C dX3_rests_110 ?_
    refine gj_topi (fun x52 ex52 => ?_)
    have hw := hw x52 ex52
    refine gj_istore (lc' := [(4, .int x52), (0, rv (t + 1)), (2, .int p2), (3, .int p3), (5, .int v5)]) C dX3_rests_111 (Nat.le_of_ble_eq_true rfl) rfl ?_
    obtain ⟨x53, ex53⟩ : ∃ x53 : Int32, x53 = v5 + 1 := ⟨_, rfl⟩
    have hw := hw x53 ex53
    refine gj_iinc (lc' := [(5, .int x53), (4, .int x52), (0, rv (t + 1)), (2, .int p2), (3, .int p3)]) (w := 1) (v := x53) C dX3_rests_113 4 rfl rfl ex53.symm (Nat.le_of_ble_eq_true rfl) rfl ?_
    refine gj_goto (tgt := 98) C dX3_rests_116 rfl ?_
    refine gj_sub (lc' := [(0, rv (t + 1)), (2, .int p2), (3, .int p3), (4, .int x52), (5, .int x53)]) [2, 3, 4, 1, 0] rfl ?_
    exact hX98 _ _ _ _ hw

theorem wq_X3_rests_98 {g : Gm} {d : TD} {t : Nat} (B : BdT g d prog_11_method_82_code 9 (some .int) 4 92) (p1 : Int32) (p2 : Int32) (p3 : Int32) (Φ : Int32 → (Nat → Nat → Int32) → Int64 → Prop) (v4 : Int32) (v5 : Int32) (J : Nat → Nat → Int32) (lw : Int64) (hw : wl_X3_rests_98 p1 p2 p3 Φ v4 v5 J lw) : GJ g 9 (TP d t J lw (gs g).heap) 0 (TQ g d t (ansI Φ)) 98 [(0, rv (t + 1)), (2, .int p2), (3, .int p3), (4, .int v4), (5, .int v5)] [] :=
  hw (fun v4 v5 J lw => GJ g 9 (TP d t J lw (gs g).heap) 0 (TQ g d t (ansI Φ)) 98 [(0, rv (t + 1)), (2, .int p2), (3, .int p3), (4, .int v4), (5, .int v5)] []) (fun v4 v5 J lw h => wk_X3_rests_98 B p1 p2 p3 Φ (fun v4 v5 J lw => GJ g 9 (TP d t J lw (gs g).heap) 0 (TQ g d t (ansI Φ)) 98 [(0, rv (t + 1)), (2, .int p2), (3, .int p3), (4, .int v4), (5, .int v5)] []) (fun v4 v5 J lw h => h) v4 v5 J lw h)
def wf_X3_rests_55 (p1 : Int32) (p2 : Int32) (p3 : Int32) (Φ : Int32 → (Nat → Nat → Int32) → Int64 → Prop) (X55 : Int32 → (Nat → Nat → Int32) → Int64 → Prop) (v4 : Int32) (J : Nat → Nat → Int32) (lw : Int64) : Prop :=
(if (J 0 1) ≤ v4 then wl_X3_rests_98 p1 p2 p3 Φ 1 0 J lw else (vp_in v4 (tln 5) ∧ (wp_X3_chanceOf v4 p1 (fun r57 J55 l56 => (vp_in v4 (tln 55) ∧ (∀ J59 : Nat → Nat → Int32, J59 = u2 J55 55 (Int32.toNatClampNeg v4) ((J 5 (Int32.toNatClampNeg v4)) * r57) → (∀ x60 : Int32, x60 = v4 + 1 → X55 x60 J59 l56)))) J lw)))
def wl_X3_rests_55 (p1 : Int32) (p2 : Int32) (p3 : Int32) (Φ : Int32 → (Nat → Nat → Int32) → Int64 → Prop) (v4 : Int32) (J : Nat → Nat → Int32) (lw : Int64) : Prop := ∀ X55 : Int32 → (Nat → Nat → Int32) → Int64 → Prop, (∀ v4 J lw, wf_X3_rests_55 p1 p2 p3 Φ X55 v4 J lw → X55 v4 J lw) → X55 v4 J lw
theorem wk_X3_rests_55 {g : Gm} {d : TD} {t : Nat} (B : BdT g d prog_11_method_82_code 9 (some .int) 4 92) (p1 : Int32) (p2 : Int32) (p3 : Int32) (Φ : Int32 → (Nat → Nat → Int32) → Int64 → Prop) (X55 : Int32 → (Nat → Nat → Int32) → Int64 → Prop) (hX55 : ∀ v4 J lw, X55 v4 J lw → GJ g 9 (TP d t J lw (gs g).heap) 0 (TQ g d t (ansI Φ)) 55 [(0, rv (t + 1)), (1, .int p1), (2, .int p2), (3, .int p3), (4, .int v4)] []) (v4 : Int32) (J : Nat → Nat → Int32) (lw : Int64) (hw : wf_X3_rests_55 p1 p2 p3 Φ X55 v4 J lw) : GJ g 9 (TP d t J lw (gs g).heap) 0 (TQ g d t (ansI Φ)) 55 [(0, rv (t + 1)), (1, .int p1), (2, .int p2), (3, .int p3), (4, .int v4)] [] := by
  unfold wf_X3_rests_55 at hw
  have C := B.1
  have hW := B.2.1
  refine gj_iload C dX3_rests_55 4 rfl ?_
  refine gj_aload_n C dX3_rests_57 0 rfl ?_
  refine tg248 C hW dX3_rests_58 ?_
  refine gj_icmp_ge (tgt := 92) C dX3_rests_61 rfl (fun c20 => ?_) (fun c20 => ?_)
  · have hw := it_t hw c20
    refine gj_iconst (v := 1) C dX3_rests_92 rfl ?_
    refine gj_istore (lc' := [(4, .int 1), (0, rv (t + 1)), (1, .int p1), (2, .int p2), (3, .int p3)]) C dX3_rests_93 (Nat.le_of_ble_eq_true rfl) rfl ?_
    refine gj_iconst (v := 0) C dX3_rests_95 rfl ?_
    refine gj_istore (lc' := [(5, .int 0), (4, .int 1), (0, rv (t + 1)), (1, .int p1), (2, .int p2), (3, .int p3)]) C dX3_rests_96 (Nat.le_of_ble_eq_true rfl) rfl ?_
    refine gj_sub (lc' := [(0, rv (t + 1)), (2, .int p2), (3, .int p3), (4, .int 1), (5, .int 0)]) [2, 4, 5, 1, 0] rfl ?_
    exact wq_X3_rests_98 B _ _ _ _ _ _ _ _ hw
  · have hw := it_f hw c20
    refine gj_aload_n C dX3_rests_64 0 rfl ?_
    refine tg107 C hW dX3_rests_65 ?_
    refine gj_iload C dX3_rests_68 4 rfl ?_
    refine gj_aload_n C dX3_rests_70 0 rfl ?_
    refine tg7 C hW dX3_rests_71 ?_
    refine gj_iload C dX3_rests_74 4 rfl ?_
    obtain ⟨h54, hw⟩ := hw
    refine gt_iald C hW (by decide) h54 dX3_rests_76 ?_
    refine gj_aload_n C dX3_rests_77 0 rfl ?_
    refine gj_iload C dX3_rests_78 4 rfl ?_
    refine gj_iload_n C dX3_rests_80 1 rfl ?_
    refine tc_X3_chanceOf B hw (Nat.le_of_ble_eq_true rfl) (Nat.le_of_ble_eq_true rfl) (Nat.le_of_ble_eq_true rfl) dX3_rests_81 (fun r57 J55 l56 hw => ?_)
    refine gj_imul C dX3_rests_84 ?_
    obtain ⟨h58, hw⟩ := hw
    refine gt_iast C hW (by decide) h58 dX3_rests_85 ?_
    refine gt_nmJ (fun J59 eJ59 => ?_)
    have hw := hw J59 eJ59
    obtain ⟨x60, ex60⟩ : ∃ x60 : Int32, x60 = v4 + 1 := ⟨_, rfl⟩
    have hw := hw x60 ex60
    refine gj_iinc (lc' := [(4, .int x60), (0, rv (t + 1)), (1, .int p1), (2, .int p2), (3, .int p3)]) (w := 1) (v := x60) C dX3_rests_86 4 rfl rfl ex60.symm (Nat.le_of_ble_eq_true rfl) rfl ?_
    refine gj_goto (tgt := 55) C dX3_rests_89 rfl ?_
    refine gj_sub (lc' := [(0, rv (t + 1)), (1, .int p1), (2, .int p2), (3, .int p3), (4, .int x60)]) [1, 2, 3, 4, 0] rfl ?_
    exact hX55 _ _ _ hw

theorem wq_X3_rests_55 {g : Gm} {d : TD} {t : Nat} (B : BdT g d prog_11_method_82_code 9 (some .int) 4 92) (p1 : Int32) (p2 : Int32) (p3 : Int32) (Φ : Int32 → (Nat → Nat → Int32) → Int64 → Prop) (v4 : Int32) (J : Nat → Nat → Int32) (lw : Int64) (hw : wl_X3_rests_55 p1 p2 p3 Φ v4 J lw) : GJ g 9 (TP d t J lw (gs g).heap) 0 (TQ g d t (ansI Φ)) 55 [(0, rv (t + 1)), (1, .int p1), (2, .int p2), (3, .int p3), (4, .int v4)] [] :=
  hw (fun v4 J lw => GJ g 9 (TP d t J lw (gs g).heap) 0 (TQ g d t (ansI Φ)) 55 [(0, rv (t + 1)), (1, .int p1), (2, .int p2), (3, .int p3), (4, .int v4)] []) (fun v4 J lw h => wk_X3_rests_55 B p1 p2 p3 Φ (fun v4 J lw => GJ g 9 (TP d t J lw (gs g).heap) 0 (TQ g d t (ansI Φ)) 55 [(0, rv (t + 1)), (1, .int p1), (2, .int p2), (3, .int p3), (4, .int v4)] []) (fun v4 J lw h => h) v4 J lw h)
def wp_X3_rests (p1 : Int32) (p2 : Int32) (p3 : Int32) (Φ : Int32 → (Nat → Nat → Int32) → Int64 → Prop) (J : Nat → Nat → Int32) (lw : Int64) : Prop :=
(∀ J1 : Nat → Nat → Int32, J1 = u2 J 0 0 0 → (wp_X3_isHour p1 (fun r4 J2 l3 => (if r4 = 0 then Φ 0 J2 l3 else (wp_X3_within p2 1 3 (fun r8 J6 l7 => (wp_X3_right r8 2 (fun r11 J9 l10 => (if r11 = 0 then Φ 0 J9 l10 else (∀ x13 : Int32, x13 = (if p3 < (-1) then 0 else (if p2 ≤ p3 then 0 else 1)) → (wp_X3_right x13 1 (fun r18 J16 l17 => (if r18 = 0 then Φ 0 J16 l17 else wl_X3_rests_55 p1 p2 p3 Φ 0 J16 l17)) J9 l10)))) J6 l7)) J2 l3))) J1 lw))
theorem wk_X3_rests {g : Gm} {d : TD} {t : Nat} (B : BdT g d prog_11_method_82_code 9 (some .int) 4 92) (p1 : Int32) (p2 : Int32) (p3 : Int32) (Φ : Int32 → (Nat → Nat → Int32) → Int64 → Prop) (J : Nat → Nat → Int32) (lw : Int64) (hw : wp_X3_rests p1 p2 p3 Φ J lw) : GJ g 9 (TP d t J lw (gs g).heap) 0 (TQ g d t (ansI Φ)) 0 [(0, rv (t + 1)), (1, .int p1), (2, .int p2), (3, .int p3)] [] := by
  unfold wp_X3_rests at hw
  have C := B.1
  have hW := B.2.1
  refine gj_aload_n C dX3_rests_0 0 rfl ?_
  refine gj_iconst (v := 0) C dX3_rests_1 rfl ?_
  refine tp134 C hW dX3_rests_2 ?_
  refine gt_nmJ (fun J1 eJ1 => ?_)
  have hw := hw J1 eJ1
  refine gj_aload_n C dX3_rests_5 0 rfl ?_
  refine gj_iload_n C dX3_rests_6 1 rfl ?_
  refine tc_X3_isHour B hw (Nat.le_of_ble_eq_true rfl) (Nat.le_of_ble_eq_true rfl) (Nat.le_of_ble_eq_true rfl) dX3_rests_7 (fun r4 J2 l3 br4 hw => ?_)
  refine gj_if_eq (tgt := 50) C dX3_rests_10 rfl (fun c5 => ?_) (fun c5 => ?_)
  · have hw := it_t hw c5
    refine gj_iconst (v := 0) C dX3_rests_50 rfl ?_
    exact gt_iret B hw dX3_rests_51
  · have hw := it_f hw c5
    refine gj_aload_n C dX3_rests_13 0 rfl ?_
    refine gj_iload_n C dX3_rests_14 2 rfl ?_
    refine gj_iconst (v := 1) C dX3_rests_15 rfl ?_
    refine gj_iconst (v := 3) C dX3_rests_16 rfl ?_
    refine tc_X3_within B hw (Nat.le_of_ble_eq_true rfl) (Nat.le_of_ble_eq_true rfl) (Nat.le_of_ble_eq_true rfl) dX3_rests_17 (fun r8 J6 l7 br8 hw => ?_)
    refine gj_iconst (v := 2) C dX3_rests_20 rfl ?_
    refine tc_X3_right B hw (Nat.le_of_ble_eq_true rfl) (Nat.le_of_ble_eq_true rfl) (Nat.le_of_ble_eq_true rfl) dX3_rests_21 (fun r11 J9 l10 br11 hw => ?_)
    refine gj_if_eq (tgt := 50) C dX3_rests_24 rfl (fun c12 => ?_) (fun c12 => ?_)
    · have hw := it_t hw c12
      refine gj_iconst (v := 0) C dX3_rests_50 rfl ?_
      exact gt_iret B hw dX3_rests_51
    · have hw := it_f hw c12
      refine gj_aload_n C dX3_rests_27 0 rfl ?_
      refine gj_iload_n C dX3_rests_28 3 rfl ?_
      refine gj_iconst (v := (-1)) C dX3_rests_29 rfl ?_
      have key : ∀ x13 : Int32, x13 = (if p3 < (-1) then 0 else (if p2 ≤ p3 then 0 else 1)) → GJ g 9 (TP d t J9 l10 (gs g).heap) 0 (TQ g d t (ansI Φ)) 43 [(0, rv (t + 1)), (1, .int p1), (2, .int p2), (3, .int p3)] [.int x13, rv (t + 1)] → GJ g 9 (TP d t J9 l10 (gs g).heap) 0 (TQ g d t (ansI Φ)) 30 [(0, rv (t + 1)), (1, .int p1), (2, .int p2), (3, .int p3)] [.int (-1), .int p3, rv (t + 1)] := by
        intro x13 ex13 kk
        refine gj_icmp_lt (tgt := 42) C dX3_rests_30 rfl (fun c14 => ?_) (fun c14 => ?_)
        · refine gj_iconst (v := 0) C dX3_rests_42 rfl ?_
          rw [if_pos c14] at ex13
          subst ex13
          exact kk
        · refine gj_iload_n C dX3_rests_33 3 rfl ?_
          refine gj_iload_n C dX3_rests_34 2 rfl ?_
          refine gj_icmp_ge (tgt := 42) C dX3_rests_35 rfl (fun c15 => ?_) (fun c15 => ?_)
          · refine gj_iconst (v := 0) C dX3_rests_42 rfl ?_
            rw [if_neg c14, if_pos c15] at ex13
            subst ex13
            exact kk
          · refine gj_iconst (v := 1) C dX3_rests_38 rfl ?_
            refine gj_goto (tgt := 43) C dX3_rests_39 rfl ?_
            rw [if_neg c14, if_neg c15] at ex13
            subst ex13
            exact kk
      obtain ⟨x13, ex13⟩ : ∃ x13 : Int32, x13 = (if p3 < (-1) then 0 else (if p2 ≤ p3 then 0 else 1)) := ⟨_, rfl⟩
      have bx13 : x13 = 0 ∨ x13 = 1 := by rw [ex13]; (repeat' split) <;> simp
      refine key x13 ex13 ?_
      have hw := hw x13 ex13
      clear key
      refine gj_iconst (v := 1) C dX3_rests_43 rfl ?_
      refine tc_X3_right B hw (Nat.le_of_ble_eq_true rfl) (Nat.le_of_ble_eq_true rfl) (Nat.le_of_ble_eq_true rfl) dX3_rests_44 (fun r18 J16 l17 br18 hw => ?_)
      refine gj_if_ne (tgt := 52) C dX3_rests_47 rfl (fun c19 => ?_) (fun c19 => ?_)
      · have hw := it_f hw c19
        refine gj_iconst (v := 0) C dX3_rests_52 rfl ?_
        refine gj_istore (lc' := [(4, .int 0), (0, rv (t + 1)), (1, .int p1), (2, .int p2), (3, .int p3)]) C dX3_rests_53 (Nat.le_of_ble_eq_true rfl) rfl ?_
        refine gj_sub (lc' := [(0, rv (t + 1)), (1, .int p1), (2, .int p2), (3, .int p3), (4, .int 0)]) [1, 2, 3, 4, 0] rfl ?_
        exact wq_X3_rests_55 B _ _ _ _ _ _ _ hw
      · have hw := it_t hw c19
        refine gj_iconst (v := 0) C dX3_rests_50 rfl ?_
        exact gt_iret B hw dX3_rests_51

theorem met_X3_rests (l : Launch) {d : TD} {t : Nat} {J : Nat → Nat → Int32} {lw : Int64} {p1 : Int32} {p2 : Int32} {p3 : Int32} {Φ : Int32 → (Nat → Nat → Int32) → Int64 → Prop} (hw : wp_X3_rests p1 p2 p3 Φ J lw) : MetT l yX3_rests prog_11_method_82_code 9 (some .int) 4 92 [.ref t, .int p1, .int p2, .int p3] d t J lw (ansI Φ) :=
  mt_of (by decide +kernel) rfl (Nat.le_of_ble_eq_true rfl) (fun g _ B => wk_X3_rests B _ _ _ _ J lw hw)
/-! isNeedy(II)Z -/
def wf_X3_isNeedy_5 (p1 : Int32) (p2 : Int32) (Φ : Int32 → (Nat → Nat → Int32) → Int64 → Prop) (X5 : Int32 → (Nat → Nat → Int32) → Int64 → Prop) (v3 : Int32) (J : Nat → Nat → Int32) (lw : Int64) : Prop :=
(if (J 0 60) < v3 then Φ 0 J lw else (vp_in ((24 * p1) + v3) (tln 38) ∧ (wp_X3_lawOf (J 38 (Int32.toNatClampNeg ((24 * p1) + v3))) (fun r6 J4 l5 => (if r6 = 0 then (∀ x8 : Int32, x8 = v3 + 1 → X5 x8 J4 l5) else (wp_X3_both p1 (fun r11 J9 l10 => (if (r6 &&& (r11 ||| p2)) = 0 then Φ 1 J9 l10 else (∀ x13 : Int32, x13 = v3 + 1 → X5 x13 J9 l10))) J4 l5))) J lw)))
def wl_X3_isNeedy_5 (p1 : Int32) (p2 : Int32) (Φ : Int32 → (Nat → Nat → Int32) → Int64 → Prop) (v3 : Int32) (J : Nat → Nat → Int32) (lw : Int64) : Prop := ∀ X5 : Int32 → (Nat → Nat → Int32) → Int64 → Prop, (∀ v3 J lw, wf_X3_isNeedy_5 p1 p2 Φ X5 v3 J lw → X5 v3 J lw) → X5 v3 J lw
theorem wk_X3_isNeedy_5 {g : Gm} {d : TD} {t : Nat} (B : BdT g d prog_11_method_83_code 5 (some .boolean) 2 45) (p1 : Int32) (p2 : Int32) (Φ : Int32 → (Nat → Nat → Int32) → Int64 → Prop) (X5 : Int32 → (Nat → Nat → Int32) → Int64 → Prop) (hX5 : ∀ v3 J lw, X5 v3 J lw → GJ g 5 (TP d t J lw (gs g).heap) 0 (TQ g d t (ansZ Φ)) 5 [(0, rv (t + 1)), (1, .int p1), (2, .int p2), (3, .int v3)] []) (v3 : Int32) (J : Nat → Nat → Int32) (lw : Int64) (hw : wf_X3_isNeedy_5 p1 p2 Φ X5 v3 J lw) : GJ g 5 (TP d t J lw (gs g).heap) 0 (TQ g d t (ansZ Φ)) 5 [(0, rv (t + 1)), (1, .int p1), (2, .int p2), (3, .int v3)] [] := by
  unfold wf_X3_isNeedy_5 at hw
  have C := B.1
  have hW := B.2.1
  refine gj_iload_n C dX3_isNeedy_5 3 rfl ?_
  refine gj_aload_n C dX3_isNeedy_6 0 rfl ?_
  refine tg392 C hW dX3_isNeedy_7 ?_
  refine gj_icmp_gt (tgt := 56) C dX3_isNeedy_10 rfl (fun c2 => ?_) (fun c2 => ?_)
  · have hw := it_t hw c2
    refine gj_iconst (v := 0) C dX3_isNeedy_56 rfl ?_
    exact gt_zret B (Or.inl rfl) hw dX3_isNeedy_57
  · have hw := it_f hw c2
    refine gj_aload_n C dX3_isNeedy_13 0 rfl ?_
    refine gj_aload_n C dX3_isNeedy_14 0 rfl ?_
    refine tg65 C hW dX3_isNeedy_15 ?_
    refine gj_bipush (v := 24) C dX3_isNeedy_18 rfl ?_
    refine gj_iload_n C dX3_isNeedy_20 1 rfl ?_
    refine gj_imul C dX3_isNeedy_21 ?_
    refine gj_iload_n C dX3_isNeedy_22 3 rfl ?_
    refine gj_iadd C dX3_isNeedy_23 ?_
    obtain ⟨h3, hw⟩ := hw
    refine gt_iald C hW (by decide) h3 dX3_isNeedy_24 ?_
    refine tc_X3_lawOf B hw (Nat.le_of_ble_eq_true rfl) (Nat.le_of_ble_eq_true rfl) (Nat.le_of_ble_eq_true rfl) dX3_isNeedy_25 (fun r6 J4 l5 hw => ?_)
    refine gj_istore (lc' := [(4, .int r6), (0, rv (t + 1)), (1, .int p1), (2, .int p2), (3, .int v3)]) C dX3_isNeedy_28 (Nat.le_of_ble_eq_true rfl) rfl ?_
    refine gj_iload C dX3_isNeedy_30 0 rfl ?_
    refine gj_if_eq (tgt := 50) C dX3_isNeedy_32 rfl (fun c7 => ?_) (fun c7 => ?_)
    · have hw := it_t hw c7
      obtain ⟨x8, ex8⟩ : ∃ x8 : Int32, x8 = v3 + 1 := ⟨_, rfl⟩
      have hw := hw x8 ex8
      refine gj_iinc (lc' := [(3, .int x8), (4, .int r6), (0, rv (t + 1)), (1, .int p1), (2, .int p2)]) (w := 1) (v := x8) C dX3_isNeedy_50 4 rfl rfl ex8.symm (Nat.le_of_ble_eq_true rfl) rfl ?_
      refine gj_goto (tgt := 5) C dX3_isNeedy_53 rfl ?_
      refine gj_sub (lc' := [(0, rv (t + 1)), (1, .int p1), (2, .int p2), (3, .int x8)]) [2, 3, 4, 0] rfl ?_
      exact hX5 _ _ _ hw
    · have hw := it_f hw c7
      refine gj_iload C dX3_isNeedy_35 0 rfl ?_
      refine gj_aload_n C dX3_isNeedy_37 1 rfl ?_
      refine gj_iload_n C dX3_isNeedy_38 2 rfl ?_
      refine tc_X3_both B hw (Nat.le_of_ble_eq_true rfl) (Nat.le_of_ble_eq_true rfl) (Nat.le_of_ble_eq_true rfl) dX3_isNeedy_39 (fun r11 J9 l10 hw => ?_)
      refine gj_iload_n C dX3_isNeedy_42 3 rfl ?_
      refine gj_ior C dX3_isNeedy_43 ?_
      refine gj_iand C dX3_isNeedy_44 ?_
      refine gj_if_ne (tgt := 50) C dX3_isNeedy_45 rfl (fun c12 => ?_) (fun c12 => ?_)
      · have hw := it_f hw c12
        obtain ⟨x13, ex13⟩ : ∃ x13 : Int32, x13 = v3 + 1 := ⟨_, rfl⟩
        have hw := hw x13 ex13
        refine gj_iinc (lc' := [(3, .int x13), (4, .int r6), (0, rv (t + 1)), (1, .int p1), (2, .int p2)]) (w := 1) (v := x13) C dX3_isNeedy_50 4 rfl rfl ex13.symm (Nat.le_of_ble_eq_true rfl) rfl ?_
        refine gj_goto (tgt := 5) C dX3_isNeedy_53 rfl ?_
        refine gj_sub (lc' := [(0, rv (t + 1)), (1, .int p1), (2, .int p2), (3, .int x13)]) [2, 3, 4, 0] rfl ?_
        exact hX5 _ _ _ hw
      · have hw := it_t hw c12
        refine gj_iconst (v := 1) C dX3_isNeedy_48 rfl ?_
        exact gt_zret B (Or.inr rfl) hw dX3_isNeedy_49

theorem wq_X3_isNeedy_5 {g : Gm} {d : TD} {t : Nat} (B : BdT g d prog_11_method_83_code 5 (some .boolean) 2 45) (p1 : Int32) (p2 : Int32) (Φ : Int32 → (Nat → Nat → Int32) → Int64 → Prop) (v3 : Int32) (J : Nat → Nat → Int32) (lw : Int64) (hw : wl_X3_isNeedy_5 p1 p2 Φ v3 J lw) : GJ g 5 (TP d t J lw (gs g).heap) 0 (TQ g d t (ansZ Φ)) 5 [(0, rv (t + 1)), (1, .int p1), (2, .int p2), (3, .int v3)] [] :=
  hw (fun v3 J lw => GJ g 5 (TP d t J lw (gs g).heap) 0 (TQ g d t (ansZ Φ)) 5 [(0, rv (t + 1)), (1, .int p1), (2, .int p2), (3, .int v3)] []) (fun v3 J lw h => wk_X3_isNeedy_5 B p1 p2 Φ (fun v3 J lw => GJ g 5 (TP d t J lw (gs g).heap) 0 (TQ g d t (ansZ Φ)) 5 [(0, rv (t + 1)), (1, .int p1), (2, .int p2), (3, .int v3)] []) (fun v3 J lw h => h) v3 J lw h)
def wp_X3_isNeedy (p1 : Int32) (p2 : Int32) (Φ : Int32 → (Nat → Nat → Int32) → Int64 → Prop) (J : Nat → Nat → Int32) (lw : Int64) : Prop :=
(∀ x1 : Int32, x1 = (J 0 59) → wl_X3_isNeedy_5 p1 p2 Φ x1 J lw)
theorem wk_X3_isNeedy {g : Gm} {d : TD} {t : Nat} (B : BdT g d prog_11_method_83_code 5 (some .boolean) 2 45) (p1 : Int32) (p2 : Int32) (Φ : Int32 → (Nat → Nat → Int32) → Int64 → Prop) (J : Nat → Nat → Int32) (lw : Int64) (hw : wp_X3_isNeedy p1 p2 Φ J lw) : GJ g 5 (TP d t J lw (gs g).heap) 0 (TQ g d t (ansZ Φ)) 0 [(0, rv (t + 1)), (1, .int p1), (2, .int p2)] [] := by
  unfold wp_X3_isNeedy at hw
  have C := B.1
  have hW := B.2.1
  refine gj_aload_n C dX3_isNeedy_0 0 rfl ?_
  refine tg389 C hW dX3_isNeedy_1 ?_
  refine gj_topi (fun x1 ex1 => ?_)
  have hw := hw x1 ex1
  refine gj_istore_n (lc' := [(3, .int x1), (0, rv (t + 1)), (1, .int p1), (2, .int p2)]) C dX3_isNeedy_4 (Nat.le_of_ble_eq_true rfl) rfl ?_
  refine gj_sub (lc' := [(0, rv (t + 1)), (1, .int p1), (2, .int p2), (3, .int x1)]) [1, 2, 3, 0] rfl ?_
  exact wq_X3_isNeedy_5 B _ _ _ _ _ _ hw

theorem met_X3_isNeedy (l : Launch) {d : TD} {t : Nat} {J : Nat → Nat → Int32} {lw : Int64} {p1 : Int32} {p2 : Int32} {Φ : Int32 → (Nat → Nat → Int32) → Int64 → Prop} (hw : wp_X3_isNeedy p1 p2 Φ J lw) : MetT l yX3_isNeedy prog_11_method_83_code 5 (some .boolean) 2 45 [.ref t, .int p1, .int p2] d t J lw (ansZ Φ) :=
  mt_of (by decide +kernel) rfl (Nat.le_of_ble_eq_true rfl) (fun g _ B => wk_X3_isNeedy B _ _ _ J lw hw)
theorem tc_X3_isNeedy {g : Gm} {d : TD} {t : Nat} {cc : ByteArray} {nL : Nat} {ret : Option FieldType} {fr lo : Nat} (B : BdT g d cc nL ret fr lo) {J : Nat → Nat → Int32} {lw : Int64} {H0 : Heap} {Q : State → Prop} {pc : Nat} {lc : List (Nat × Value)} {rest : List Value} {p1 : Int32} {p2 : Int32} {Φ : Int32 → (Nat → Nat → Int32) → Int64 → Prop} (hw : wp_X3_isNeedy p1 p2 Φ J lw) (hf : 3 ≤ fr) (hlo : 69 ≤ lo) (hrest : (rest.map fun v => v.category).sum ≤ 8) (dg : decode cc pc = .ok (.invokevirtual 401, 3)) (k : ∀ (r : Int32) J' lw', (r = 0 ∨ r = 1) → Φ r J' lw' → GJ g nL (TP d t J' lw' H0) 0 Q (pc + 3) lc (.int r :: rest)) : GJ g nL (TP d t J lw H0) 0 Q pc lc (.int p2 :: .int p1 :: rv (t + 1) :: rest) :=
  gt_callV (n := 2) (As := [.int p1, .int p2]) B (met_X3_isNeedy g.2.1 hw) (lw_V q1723 q1725 qs85 q97 q1726) ⟨rfl, by decide +kernel, by decide +kernel, by decide +kernel⟩ rfl hf hlo ⟨Nat.zero_le _, Nat.zero_le _⟩ rfl hrest dg (fun v J' lw' hp => by obtain ⟨r, rfl, hb, hp⟩ := hp; exact k r J' lw' hb hp)
/-! isFree(II)Z -/
def wf_X3_isFree_5 (p1 : Int32) (p2 : Int32) (Φ : Int32 → (Nat → Nat → Int32) → Int64 → Prop) (X5 : Int32 → (Nat → Nat → Int32) → Int64 → Prop) (v3 : Int32) (J : Nat → Nat → Int32) (lw : Int64) : Prop :=
(if (J 0 60) < v3 then Φ 1 J lw else (vp_in ((24 * p1) + v3) (tln 38) ∧ (wp_X3_lawOf (J 38 (Int32.toNatClampNeg ((24 * p1) + v3))) (fun r6 J4 l5 => (if (r6 &&& p2) = 0 then (∀ x8 : Int32, x8 = v3 + 1 → X5 x8 J4 l5) else Φ 0 J4 l5)) J lw)))
def wl_X3_isFree_5 (p1 : Int32) (p2 : Int32) (Φ : Int32 → (Nat → Nat → Int32) → Int64 → Prop) (v3 : Int32) (J : Nat → Nat → Int32) (lw : Int64) : Prop := ∀ X5 : Int32 → (Nat → Nat → Int32) → Int64 → Prop, (∀ v3 J lw, wf_X3_isFree_5 p1 p2 Φ X5 v3 J lw → X5 v3 J lw) → X5 v3 J lw
theorem wk_X3_isFree_5 {g : Gm} {d : TD} {t : Nat} (B : BdT g d prog_11_method_84_code 4 (some .boolean) 1 21) (p1 : Int32) (p2 : Int32) (Φ : Int32 → (Nat → Nat → Int32) → Int64 → Prop) (X5 : Int32 → (Nat → Nat → Int32) → Int64 → Prop) (hX5 : ∀ v3 J lw, X5 v3 J lw → GJ g 4 (TP d t J lw (gs g).heap) 0 (TQ g d t (ansZ Φ)) 5 [(0, rv (t + 1)), (1, .int p1), (2, .int p2), (3, .int v3)] []) (v3 : Int32) (J : Nat → Nat → Int32) (lw : Int64) (hw : wf_X3_isFree_5 p1 p2 Φ X5 v3 J lw) : GJ g 4 (TP d t J lw (gs g).heap) 0 (TQ g d t (ansZ Φ)) 5 [(0, rv (t + 1)), (1, .int p1), (2, .int p2), (3, .int v3)] [] := by
  unfold wf_X3_isFree_5 at hw
  have C := B.1
  have hW := B.2.1
  refine gj_iload_n C dX3_isFree_5 3 rfl ?_
  refine gj_aload_n C dX3_isFree_6 0 rfl ?_
  refine tg392 C hW dX3_isFree_7 ?_
  refine gj_icmp_gt (tgt := 41) C dX3_isFree_10 rfl (fun c2 => ?_) (fun c2 => ?_)
  · have hw := it_t hw c2
    refine gj_iconst (v := 1) C dX3_isFree_41 rfl ?_
    exact gt_zret B (Or.inr rfl) hw dX3_isFree_42
  · have hw := it_f hw c2
    refine gj_aload_n C dX3_isFree_13 0 rfl ?_
    refine gj_aload_n C dX3_isFree_14 0 rfl ?_
    refine tg65 C hW dX3_isFree_15 ?_
    refine gj_bipush (v := 24) C dX3_isFree_18 rfl ?_
    refine gj_iload_n C dX3_isFree_20 1 rfl ?_
    refine gj_imul C dX3_isFree_21 ?_
    refine gj_iload_n C dX3_isFree_22 3 rfl ?_
    refine gj_iadd C dX3_isFree_23 ?_
    obtain ⟨h3, hw⟩ := hw
    refine gt_iald C hW (by decide) h3 dX3_isFree_24 ?_
    refine tc_X3_lawOf B hw (Nat.le_of_ble_eq_true rfl) (Nat.le_of_ble_eq_true rfl) (Nat.le_of_ble_eq_true rfl) dX3_isFree_25 (fun r6 J4 l5 hw => ?_)
    refine gj_iload_n C dX3_isFree_28 2 rfl ?_
    refine gj_iand C dX3_isFree_29 ?_
    refine gj_if_eq (tgt := 35) C dX3_isFree_30 rfl (fun c7 => ?_) (fun c7 => ?_)
    · have hw := it_t hw c7
      obtain ⟨x8, ex8⟩ : ∃ x8 : Int32, x8 = v3 + 1 := ⟨_, rfl⟩
      have hw := hw x8 ex8
      refine gj_iinc (lc' := [(3, .int x8), (0, rv (t + 1)), (1, .int p1), (2, .int p2)]) (w := 1) (v := x8) C dX3_isFree_35 3 rfl rfl ex8.symm (Nat.le_of_ble_eq_true rfl) rfl ?_
      refine gj_goto (tgt := 5) C dX3_isFree_38 rfl ?_
      refine gj_sub (lc' := [(0, rv (t + 1)), (1, .int p1), (2, .int p2), (3, .int x8)]) [1, 2, 3, 0] rfl ?_
      exact hX5 _ _ _ hw
    · have hw := it_f hw c7
      refine gj_iconst (v := 0) C dX3_isFree_33 rfl ?_
      exact gt_zret B (Or.inl rfl) hw dX3_isFree_34

theorem wq_X3_isFree_5 {g : Gm} {d : TD} {t : Nat} (B : BdT g d prog_11_method_84_code 4 (some .boolean) 1 21) (p1 : Int32) (p2 : Int32) (Φ : Int32 → (Nat → Nat → Int32) → Int64 → Prop) (v3 : Int32) (J : Nat → Nat → Int32) (lw : Int64) (hw : wl_X3_isFree_5 p1 p2 Φ v3 J lw) : GJ g 4 (TP d t J lw (gs g).heap) 0 (TQ g d t (ansZ Φ)) 5 [(0, rv (t + 1)), (1, .int p1), (2, .int p2), (3, .int v3)] [] :=
  hw (fun v3 J lw => GJ g 4 (TP d t J lw (gs g).heap) 0 (TQ g d t (ansZ Φ)) 5 [(0, rv (t + 1)), (1, .int p1), (2, .int p2), (3, .int v3)] []) (fun v3 J lw h => wk_X3_isFree_5 B p1 p2 Φ (fun v3 J lw => GJ g 4 (TP d t J lw (gs g).heap) 0 (TQ g d t (ansZ Φ)) 5 [(0, rv (t + 1)), (1, .int p1), (2, .int p2), (3, .int v3)] []) (fun v3 J lw h => h) v3 J lw h)
def wp_X3_isFree (p1 : Int32) (p2 : Int32) (Φ : Int32 → (Nat → Nat → Int32) → Int64 → Prop) (J : Nat → Nat → Int32) (lw : Int64) : Prop :=
(∀ x1 : Int32, x1 = (J 0 59) → wl_X3_isFree_5 p1 p2 Φ x1 J lw)
theorem wk_X3_isFree {g : Gm} {d : TD} {t : Nat} (B : BdT g d prog_11_method_84_code 4 (some .boolean) 1 21) (p1 : Int32) (p2 : Int32) (Φ : Int32 → (Nat → Nat → Int32) → Int64 → Prop) (J : Nat → Nat → Int32) (lw : Int64) (hw : wp_X3_isFree p1 p2 Φ J lw) : GJ g 4 (TP d t J lw (gs g).heap) 0 (TQ g d t (ansZ Φ)) 0 [(0, rv (t + 1)), (1, .int p1), (2, .int p2)] [] := by
  unfold wp_X3_isFree at hw
  have C := B.1
  have hW := B.2.1
  refine gj_aload_n C dX3_isFree_0 0 rfl ?_
  refine tg389 C hW dX3_isFree_1 ?_
  refine gj_topi (fun x1 ex1 => ?_)
  have hw := hw x1 ex1
  refine gj_istore_n (lc' := [(3, .int x1), (0, rv (t + 1)), (1, .int p1), (2, .int p2)]) C dX3_isFree_4 (Nat.le_of_ble_eq_true rfl) rfl ?_
  refine gj_sub (lc' := [(0, rv (t + 1)), (1, .int p1), (2, .int p2), (3, .int x1)]) [1, 2, 3, 0] rfl ?_
  exact wq_X3_isFree_5 B _ _ _ _ _ _ hw

theorem met_X3_isFree (l : Launch) {d : TD} {t : Nat} {J : Nat → Nat → Int32} {lw : Int64} {p1 : Int32} {p2 : Int32} {Φ : Int32 → (Nat → Nat → Int32) → Int64 → Prop} (hw : wp_X3_isFree p1 p2 Φ J lw) : MetT l yX3_isFree prog_11_method_84_code 4 (some .boolean) 1 21 [.ref t, .int p1, .int p2] d t J lw (ansZ Φ) :=
  mt_of (by decide +kernel) rfl (Nat.le_of_ble_eq_true rfl) (fun g _ B => wk_X3_isFree B _ _ _ J lw hw)
theorem tc_X3_isFree {g : Gm} {d : TD} {t : Nat} {cc : ByteArray} {nL : Nat} {ret : Option FieldType} {fr lo : Nat} (B : BdT g d cc nL ret fr lo) {J : Nat → Nat → Int32} {lw : Int64} {H0 : Heap} {Q : State → Prop} {pc : Nat} {lc : List (Nat × Value)} {rest : List Value} {p1 : Int32} {p2 : Int32} {Φ : Int32 → (Nat → Nat → Int32) → Int64 → Prop} (hw : wp_X3_isFree p1 p2 Φ J lw) (hf : 2 ≤ fr) (hlo : 44 ≤ lo) (hrest : (rest.map fun v => v.category).sum ≤ 8) (dg : decode cc pc = .ok (.invokevirtual 395, 3)) (k : ∀ (r : Int32) J' lw', (r = 0 ∨ r = 1) → Φ r J' lw' → GJ g nL (TP d t J' lw' H0) 0 Q (pc + 3) lc (.int r :: rest)) : GJ g nL (TP d t J lw H0) 0 Q pc lc (.int p2 :: .int p1 :: rv (t + 1) :: rest) :=
  gt_callV (n := 2) (As := [.int p1, .int p2]) B (met_X3_isFree g.2.1 hw) (lw_V q1731 q1733 qs87 q97 q1734) ⟨rfl, by decide +kernel, by decide +kernel, by decide +kernel⟩ rfl hf hlo ⟨Nat.zero_le _, Nat.zero_le _⟩ rfl hrest dg (fun v J' lw' hp => by obtain ⟨r, rfl, hb, hp⟩ := hp; exact k r J' lw' hb hp)
/-! given(II)I -/
def wf_X3_given_5 (p1 : Int32) (p2 : Int32) (Φ : Int32 → (Nat → Nat → Int32) → Int64 → Prop) (X5 : Int32 → Int32 → (Nat → Nat → Int32) → Int64 → Prop) (v3 : Int32) (v4 : Int32) (J : Nat → Nat → Int32) (lw : Int64) : Prop :=
(if (J 0 2) ≤ v4 then Φ v3 J lw else (vp_in v4 (tln 57) ∧ (∀ x3 : Int32, x3 = (if (J 57 (Int32.toNatClampNeg v4)) = ((10 * p1) + p2) then 1 else 0) → (∀ x5 : Int32, x5 = (v3 + x3) → (∀ x6 : Int32, x6 = v4 + 1 → X5 x5 x6 J lw)))))
def wl_X3_given_5 (p1 : Int32) (p2 : Int32) (Φ : Int32 → (Nat → Nat → Int32) → Int64 → Prop) (v3 : Int32) (v4 : Int32) (J : Nat → Nat → Int32) (lw : Int64) : Prop := ∀ X5 : Int32 → Int32 → (Nat → Nat → Int32) → Int64 → Prop, (∀ v3 v4 J lw, wf_X3_given_5 p1 p2 Φ X5 v3 v4 J lw → X5 v3 v4 J lw) → X5 v3 v4 J lw
theorem wk_X3_given_5 {g : Gm} {d : TD} {t : Nat} (B : BdT g d prog_11_method_85_code 5 (some .int) 0 0) (p1 : Int32) (p2 : Int32) (Φ : Int32 → (Nat → Nat → Int32) → Int64 → Prop) (X5 : Int32 → Int32 → (Nat → Nat → Int32) → Int64 → Prop) (hX5 : ∀ v3 v4 J lw, X5 v3 v4 J lw → GJ g 5 (TP d t J lw (gs g).heap) 0 (TQ g d t (ansI Φ)) 5 [(0, rv (t + 1)), (1, .int p1), (2, .int p2), (3, .int v3), (4, .int v4)] []) (v3 : Int32) (v4 : Int32) (J : Nat → Nat → Int32) (lw : Int64) (hw : wf_X3_given_5 p1 p2 Φ X5 v3 v4 J lw) : GJ g 5 (TP d t J lw (gs g).heap) 0 (TQ g d t (ansI Φ)) 5 [(0, rv (t + 1)), (1, .int p1), (2, .int p2), (3, .int v3), (4, .int v4)] [] := by
  unfold wf_X3_given_5 at hw
  have C := B.1
  have hW := B.2.1
  refine gj_iload C dX3_given_5 4 rfl ?_
  refine gj_aload_n C dX3_given_7 0 rfl ?_
  refine tg251 C hW dX3_given_8 ?_
  refine gj_icmp_ge (tgt := 44) C dX3_given_11 rfl (fun c1 => ?_) (fun c1 => ?_)
  · have hw := it_t hw c1
    refine gj_iload_n C dX3_given_44 3 rfl ?_
    exact gt_iret B hw dX3_given_45
  · have hw := it_f hw c1
    refine gj_iload_n C dX3_given_14 3 rfl ?_
    refine gj_aload_n C dX3_given_15 0 rfl ?_
    refine tg110 C hW dX3_given_16 ?_
    refine gj_iload C dX3_given_19 4 rfl ?_
    obtain ⟨h2, hw⟩ := hw
    refine gt_iald C hW (by decide) h2 dX3_given_21 ?_
    refine gj_bipush (v := 10) C dX3_given_22 rfl ?_
    refine gj_iload_n C dX3_given_24 1 rfl ?_
    refine gj_imul C dX3_given_25 ?_
    refine gj_iload_n C dX3_given_26 2 rfl ?_
    refine gj_iadd C dX3_given_27 ?_
    have key : ∀ x3 : Int32, x3 = (if (J 57 (Int32.toNatClampNeg v4)) = ((10 * p1) + p2) then 1 else 0) → GJ g 5 (TP d t J lw (gs g).heap) 0 (TQ g d t (ansI Φ)) 36 [(0, rv (t + 1)), (1, .int p1), (2, .int p2), (3, .int v3), (4, .int v4)] [.int x3, .int v3] → GJ g 5 (TP d t J lw (gs g).heap) 0 (TQ g d t (ansI Φ)) 28 [(0, rv (t + 1)), (1, .int p1), (2, .int p2), (3, .int v3), (4, .int v4)] [.int ((10 * p1) + p2), .int (J 57 (Int32.toNatClampNeg v4)), .int v3] := by
      intro x3 ex3 kk
      refine gj_icmp_ne (tgt := 35) C dX3_given_28 rfl (fun c4 => ?_) (fun c4 => ?_)
      · refine gj_iconst (v := 0) C dX3_given_35 rfl ?_
        rw [if_neg c4] at ex3
        subst ex3
        exact kk
      · refine gj_iconst (v := 1) C dX3_given_31 rfl ?_
        refine gj_goto (tgt := 36) C dX3_given_32 rfl ?_
        rw [if_pos c4] at ex3
        subst ex3
        exact kk
    obtain ⟨x3, ex3⟩ : ∃ x3 : Int32, x3 = (if (J 57 (Int32.toNatClampNeg v4)) = ((10 * p1) + p2) then 1 else 0) := ⟨_, rfl⟩
    have bx3 : x3 = 0 ∨ x3 = 1 := by rw [ex3]; (repeat' split) <;> simp
    refine key x3 ex3 ?_
    have hw := hw x3 ex3
    clear key
    refine gj_iadd C dX3_given_36 ?_
    refine gj_topi (fun x5 ex5 => ?_)
    have hw := hw x5 ex5
    refine gj_istore_n (lc' := [(3, .int x5), (0, rv (t + 1)), (1, .int p1), (2, .int p2), (4, .int v4)]) C dX3_given_37 (Nat.le_of_ble_eq_true rfl) rfl ?_
    obtain ⟨x6, ex6⟩ : ∃ x6 : Int32, x6 = v4 + 1 := ⟨_, rfl⟩
    have hw := hw x6 ex6
    refine gj_iinc (lc' := [(4, .int x6), (3, .int x5), (0, rv (t + 1)), (1, .int p1), (2, .int p2)]) (w := 1) (v := x6) C dX3_given_38 4 rfl rfl ex6.symm (Nat.le_of_ble_eq_true rfl) rfl ?_
    refine gj_goto (tgt := 5) C dX3_given_41 rfl ?_
    refine gj_sub (lc' := [(0, rv (t + 1)), (1, .int p1), (2, .int p2), (3, .int x5), (4, .int x6)]) [2, 3, 4, 1, 0] rfl ?_
    exact hX5 _ _ _ _ hw

theorem wq_X3_given_5 {g : Gm} {d : TD} {t : Nat} (B : BdT g d prog_11_method_85_code 5 (some .int) 0 0) (p1 : Int32) (p2 : Int32) (Φ : Int32 → (Nat → Nat → Int32) → Int64 → Prop) (v3 : Int32) (v4 : Int32) (J : Nat → Nat → Int32) (lw : Int64) (hw : wl_X3_given_5 p1 p2 Φ v3 v4 J lw) : GJ g 5 (TP d t J lw (gs g).heap) 0 (TQ g d t (ansI Φ)) 5 [(0, rv (t + 1)), (1, .int p1), (2, .int p2), (3, .int v3), (4, .int v4)] [] :=
  hw (fun v3 v4 J lw => GJ g 5 (TP d t J lw (gs g).heap) 0 (TQ g d t (ansI Φ)) 5 [(0, rv (t + 1)), (1, .int p1), (2, .int p2), (3, .int v3), (4, .int v4)] []) (fun v3 v4 J lw h => wk_X3_given_5 B p1 p2 Φ (fun v3 v4 J lw => GJ g 5 (TP d t J lw (gs g).heap) 0 (TQ g d t (ansI Φ)) 5 [(0, rv (t + 1)), (1, .int p1), (2, .int p2), (3, .int v3), (4, .int v4)] []) (fun v3 v4 J lw h => h) v3 v4 J lw h)
def wp_X3_given (p1 : Int32) (p2 : Int32) (Φ : Int32 → (Nat → Nat → Int32) → Int64 → Prop) (J : Nat → Nat → Int32) (lw : Int64) : Prop :=
wl_X3_given_5 p1 p2 Φ 0 0 J lw
theorem wk_X3_given {g : Gm} {d : TD} {t : Nat} (B : BdT g d prog_11_method_85_code 5 (some .int) 0 0) (p1 : Int32) (p2 : Int32) (Φ : Int32 → (Nat → Nat → Int32) → Int64 → Prop) (J : Nat → Nat → Int32) (lw : Int64) (hw : wp_X3_given p1 p2 Φ J lw) : GJ g 5 (TP d t J lw (gs g).heap) 0 (TQ g d t (ansI Φ)) 0 [(0, rv (t + 1)), (1, .int p1), (2, .int p2)] [] := by
  unfold wp_X3_given at hw
  have C := B.1
  have hW := B.2.1
  refine gj_iconst (v := 0) C dX3_given_0 rfl ?_
  refine gj_istore_n (lc' := [(3, .int 0), (0, rv (t + 1)), (1, .int p1), (2, .int p2)]) C dX3_given_1 (Nat.le_of_ble_eq_true rfl) rfl ?_
  refine gj_iconst (v := 0) C dX3_given_2 rfl ?_
  refine gj_istore (lc' := [(4, .int 0), (3, .int 0), (0, rv (t + 1)), (1, .int p1), (2, .int p2)]) C dX3_given_3 (Nat.le_of_ble_eq_true rfl) rfl ?_
  refine gj_sub (lc' := [(0, rv (t + 1)), (1, .int p1), (2, .int p2), (3, .int 0), (4, .int 0)]) [2, 3, 4, 1, 0] rfl ?_
  exact wq_X3_given_5 B _ _ _ _ _ _ _ hw

theorem met_X3_given (l : Launch) {d : TD} {t : Nat} {J : Nat → Nat → Int32} {lw : Int64} {p1 : Int32} {p2 : Int32} {Φ : Int32 → (Nat → Nat → Int32) → Int64 → Prop} (hw : wp_X3_given p1 p2 Φ J lw) : MetT l yX3_given prog_11_method_85_code 5 (some .int) 0 0 [.ref t, .int p1, .int p2] d t J lw (ansI Φ) :=
  mt_of (by decide +kernel) rfl (Nat.le_of_ble_eq_true rfl) (fun g _ B => wk_X3_given B _ _ _ J lw hw)
theorem tc_X3_given {g : Gm} {d : TD} {t : Nat} {cc : ByteArray} {nL : Nat} {ret : Option FieldType} {fr lo : Nat} (B : BdT g d cc nL ret fr lo) {J : Nat → Nat → Int32} {lw : Int64} {H0 : Heap} {Q : State → Prop} {pc : Nat} {lc : List (Nat × Value)} {rest : List Value} {p1 : Int32} {p2 : Int32} {Φ : Int32 → (Nat → Nat → Int32) → Int64 → Prop} (hw : wp_X3_given p1 p2 Φ J lw) (hf : 1 ≤ fr) (hlo : 24 ≤ lo) (hrest : (rest.map fun v => v.category).sum ≤ 8) (dg : decode cc pc = .ok (.invokevirtual 398, 3)) (k : ∀ (r : Int32) J' lw', Φ r J' lw' → GJ g nL (TP d t J' lw' H0) 0 Q (pc + 3) lc (.int r :: rest)) : GJ g nL (TP d t J lw H0) 0 Q pc lc (.int p2 :: .int p1 :: rv (t + 1) :: rest) :=
  gt_callV (n := 2) (As := [.int p1, .int p2]) B (met_X3_given g.2.1 hw) (lw_V q1735 q1737 qs88 q97 q1738) ⟨rfl, by decide +kernel, by decide +kernel, by decide +kernel⟩ rfl hf hlo ⟨Nat.zero_le _, Nat.zero_le _⟩ rfl hrest dg (fun v J' lw' hp => by obtain ⟨r, rfl, hp⟩ := hp; exact k r J' lw' hp)
/-! lendable(II)I -/
def wj_X3_lendable_39 (p1 : Int32) (p2 : Int32) (Φ : Int32 → (Nat → Nat → Int32) → Int64 → Prop) (X4 : Int32 → (Nat → Nat → Int32) → Int64 → Prop) (v3 : Int32) (v4 : Int32) (v5 : Int32) (J : Nat → Nat → Int32) (lw : Int64) : Prop :=
(if v4 = p1 then (∀ x7 : Int32, x7 = v3 + 1 → X4 x7 J lw) else (wp_X3_has p1 v5 (fun r10 J8 l9 => (if 0 < r10 then (∀ x12 : Int32, x12 = v3 + 1 → X4 x12 J8 l9) else (wp_X3_isFree v4 v5 (fun r15 J13 l14 => (if r15 = 0 then (∀ x17 : Int32, x17 = v3 + 1 → X4 x17 J13 l14) else (wp_X3_has v4 v5 (fun r20 J18 l19 => (wp_X3_given v4 v5 (fun r23 J21 l22 => (if r23 < r20 then (wp_X3_isNeedy p1 v5 (fun r27 J25 l26 => (if r27 = 0 then Φ v3 J25 l26 else (∀ x29 : Int32, x29 = v3 + 1 → X4 x29 J25 l26))) J21 l22) else (∀ x30 : Int32, x30 = v3 + 1 → X4 x30 J21 l22))) J18 l19)) J13 l14))) J8 l9))) J lw))
theorem wq_X3_lendable_39 {g : Gm} {d : TD} {t : Nat} (B : BdT g d prog_11_method_86_code 6 (some .int) 3 69) (p1 : Int32) (p2 : Int32) (Φ : Int32 → (Nat → Nat → Int32) → Int64 → Prop) (X4 : Int32 → (Nat → Nat → Int32) → Int64 → Prop) (hX4 : ∀ v3 J lw, X4 v3 J lw → GJ g 6 (TP d t J lw (gs g).heap) 0 (TQ g d t (ansI Φ)) 4 [(0, rv (t + 1)), (1, .int p1), (3, .int v3)] []) (v3 : Int32) (v4 : Int32) (v5 : Int32) (J : Nat → Nat → Int32) (lw : Int64) (hw : wj_X3_lendable_39 p1 p2 Φ X4 v3 v4 v5 J lw) : GJ g 6 (TP d t J lw (gs g).heap) 0 (TQ g d t (ansI Φ)) 39 [(0, rv (t + 1)), (1, .int p1), (3, .int v3), (4, .int v4), (5, .int v5)] [] := by
  unfold wj_X3_lendable_39 at hw
  have C := B.1
  have hW := B.2.1
  refine gj_iload C dX3_lendable_39 3 rfl ?_
  refine gj_iload_n C dX3_lendable_41 1 rfl ?_
  refine gj_icmp_eq (tgt := 100) C dX3_lendable_42 rfl (fun c6 => ?_) (fun c6 => ?_)
  · have hw := it_t hw c6
    obtain ⟨x7, ex7⟩ : ∃ x7 : Int32, x7 = v3 + 1 := ⟨_, rfl⟩
    have hw := hw x7 ex7
    refine gj_iinc (lc' := [(3, .int x7), (0, rv (t + 1)), (1, .int p1), (4, .int v4), (5, .int v5)]) (w := 1) (v := x7) C dX3_lendable_100 2 rfl rfl ex7.symm (Nat.le_of_ble_eq_true rfl) rfl ?_
    refine gj_goto (tgt := 4) C dX3_lendable_103 rfl ?_
    refine gj_sub (lc' := [(0, rv (t + 1)), (1, .int p1), (3, .int x7)]) [1, 2, 0] rfl ?_
    exact hX4 _ _ _ hw
  · have hw := it_f hw c6
    refine gj_aload_n C dX3_lendable_45 0 rfl ?_
    refine gj_iload_n C dX3_lendable_46 1 rfl ?_
    refine gj_iload C dX3_lendable_47 4 rfl ?_
    refine tc_X3_has B hw (Nat.le_of_ble_eq_true rfl) (Nat.le_of_ble_eq_true rfl) (Nat.le_of_ble_eq_true rfl) dX3_lendable_49 (fun r10 J8 l9 hw => ?_)
    refine gj_if_gt (tgt := 100) C dX3_lendable_52 rfl (fun c11 => ?_) (fun c11 => ?_)
    · have hw := it_t hw c11
      obtain ⟨x12, ex12⟩ : ∃ x12 : Int32, x12 = v3 + 1 := ⟨_, rfl⟩
      have hw := hw x12 ex12
      refine gj_iinc (lc' := [(3, .int x12), (0, rv (t + 1)), (1, .int p1), (4, .int v4), (5, .int v5)]) (w := 1) (v := x12) C dX3_lendable_100 2 rfl rfl ex12.symm (Nat.le_of_ble_eq_true rfl) rfl ?_
      refine gj_goto (tgt := 4) C dX3_lendable_103 rfl ?_
      refine gj_sub (lc' := [(0, rv (t + 1)), (1, .int p1), (3, .int x12)]) [1, 2, 0] rfl ?_
      exact hX4 _ _ _ hw
    · have hw := it_f hw c11
      refine gj_aload_n C dX3_lendable_55 0 rfl ?_
      refine gj_iload C dX3_lendable_56 3 rfl ?_
      refine gj_iload C dX3_lendable_58 4 rfl ?_
      refine tc_X3_isFree B hw (Nat.le_of_ble_eq_true rfl) (Nat.le_of_ble_eq_true rfl) (Nat.le_of_ble_eq_true rfl) dX3_lendable_60 (fun r15 J13 l14 br15 hw => ?_)
      refine gj_if_eq (tgt := 100) C dX3_lendable_63 rfl (fun c16 => ?_) (fun c16 => ?_)
      · have hw := it_t hw c16
        obtain ⟨x17, ex17⟩ : ∃ x17 : Int32, x17 = v3 + 1 := ⟨_, rfl⟩
        have hw := hw x17 ex17
        refine gj_iinc (lc' := [(3, .int x17), (0, rv (t + 1)), (1, .int p1), (4, .int v4), (5, .int v5)]) (w := 1) (v := x17) C dX3_lendable_100 2 rfl rfl ex17.symm (Nat.le_of_ble_eq_true rfl) rfl ?_
        refine gj_goto (tgt := 4) C dX3_lendable_103 rfl ?_
        refine gj_sub (lc' := [(0, rv (t + 1)), (1, .int p1), (3, .int x17)]) [1, 2, 0] rfl ?_
        exact hX4 _ _ _ hw
      · have hw := it_f hw c16
        refine gj_aload_n C dX3_lendable_66 0 rfl ?_
        refine gj_iload C dX3_lendable_67 3 rfl ?_
        refine gj_iload C dX3_lendable_69 4 rfl ?_
        refine tc_X3_has B hw (Nat.le_of_ble_eq_true rfl) (Nat.le_of_ble_eq_true rfl) (Nat.le_of_ble_eq_true rfl) dX3_lendable_71 (fun r20 J18 l19 hw => ?_)
        refine gj_aload_n C dX3_lendable_74 0 rfl ?_
        refine gj_iload C dX3_lendable_75 3 rfl ?_
        refine gj_iload C dX3_lendable_77 4 rfl ?_
        refine tc_X3_given B hw (Nat.le_of_ble_eq_true rfl) (Nat.le_of_ble_eq_true rfl) (Nat.le_of_ble_eq_true rfl) dX3_lendable_79 (fun r23 J21 l22 hw => ?_)
        refine gj_icmp_gt (tgt := 88) C dX3_lendable_82 rfl (fun c24 => ?_) (fun c24 => ?_)
        · have hw := it_t hw c24
          refine gj_aload_n C dX3_lendable_88 0 rfl ?_
          refine gj_iload_n C dX3_lendable_89 1 rfl ?_
          refine gj_iload C dX3_lendable_90 4 rfl ?_
          refine tc_X3_isNeedy B hw (Nat.le_of_ble_eq_true rfl) (Nat.le_of_ble_eq_true rfl) (Nat.le_of_ble_eq_true rfl) dX3_lendable_92 (fun r27 J25 l26 br27 hw => ?_)
          refine gj_if_ne (tgt := 100) C dX3_lendable_95 rfl (fun c28 => ?_) (fun c28 => ?_)
          · have hw := it_f hw c28
            obtain ⟨x29, ex29⟩ : ∃ x29 : Int32, x29 = v3 + 1 := ⟨_, rfl⟩
            have hw := hw x29 ex29
            refine gj_iinc (lc' := [(3, .int x29), (0, rv (t + 1)), (1, .int p1), (4, .int v4), (5, .int v5)]) (w := 1) (v := x29) C dX3_lendable_100 2 rfl rfl ex29.symm (Nat.le_of_ble_eq_true rfl) rfl ?_
            refine gj_goto (tgt := 4) C dX3_lendable_103 rfl ?_
            refine gj_sub (lc' := [(0, rv (t + 1)), (1, .int p1), (3, .int x29)]) [1, 2, 0] rfl ?_
            exact hX4 _ _ _ hw
          · have hw := it_t hw c28
            refine gj_iload_n C dX3_lendable_98 2 rfl ?_
            exact gt_iret B hw dX3_lendable_99
        · have hw := it_f hw c24
          refine gj_goto (tgt := 100) C dX3_lendable_85 rfl ?_
          obtain ⟨x30, ex30⟩ : ∃ x30 : Int32, x30 = v3 + 1 := ⟨_, rfl⟩
          have hw := hw x30 ex30
          refine gj_iinc (lc' := [(3, .int x30), (0, rv (t + 1)), (1, .int p1), (4, .int v4), (5, .int v5)]) (w := 1) (v := x30) C dX3_lendable_100 2 rfl rfl ex30.symm (Nat.le_of_ble_eq_true rfl) rfl ?_
          refine gj_goto (tgt := 4) C dX3_lendable_103 rfl ?_
          refine gj_sub (lc' := [(0, rv (t + 1)), (1, .int p1), (3, .int x30)]) [1, 2, 0] rfl ?_
          exact hX4 _ _ _ hw

def wf_X3_lendable_4 (p1 : Int32) (p2 : Int32) (Φ : Int32 → (Nat → Nat → Int32) → Int64 → Prop) (X4 : Int32 → (Nat → Nat → Int32) → Int64 → Prop) (v3 : Int32) (J : Nat → Nat → Int32) (lw : Int64) : Prop :=
(if (10 * (J 0 2)) ≤ v3 then Φ (-1) J lw else (∀ x3 : Int32, x3 = (v3 / 10) → (∀ x4 : Int32, x4 = (v3 - v3 / 10 * 10) → (if x4 = 1 then wj_X3_lendable_39 p1 p2 Φ X4 v3 x3 x4 J lw else (if x4 = 2 then wj_X3_lendable_39 p1 p2 Φ X4 v3 x3 x4 J lw else (∀ x32 : Int32, x32 = v3 + 1 → X4 x32 J lw))))))
def wl_X3_lendable_4 (p1 : Int32) (p2 : Int32) (Φ : Int32 → (Nat → Nat → Int32) → Int64 → Prop) (v3 : Int32) (J : Nat → Nat → Int32) (lw : Int64) : Prop := ∀ X4 : Int32 → (Nat → Nat → Int32) → Int64 → Prop, (∀ v3 J lw, wf_X3_lendable_4 p1 p2 Φ X4 v3 J lw → X4 v3 J lw) → X4 v3 J lw
theorem wk_X3_lendable_4 {g : Gm} {d : TD} {t : Nat} (B : BdT g d prog_11_method_86_code 6 (some .int) 3 69) (p1 : Int32) (p2 : Int32) (Φ : Int32 → (Nat → Nat → Int32) → Int64 → Prop) (X4 : Int32 → (Nat → Nat → Int32) → Int64 → Prop) (hX4 : ∀ v3 J lw, X4 v3 J lw → GJ g 6 (TP d t J lw (gs g).heap) 0 (TQ g d t (ansI Φ)) 4 [(0, rv (t + 1)), (1, .int p1), (3, .int v3)] []) (v3 : Int32) (J : Nat → Nat → Int32) (lw : Int64) (hw : wf_X3_lendable_4 p1 p2 Φ X4 v3 J lw) : GJ g 6 (TP d t J lw (gs g).heap) 0 (TQ g d t (ansI Φ)) 4 [(0, rv (t + 1)), (1, .int p1), (3, .int v3)] [] := by
  unfold wf_X3_lendable_4 at hw
  have C := B.1
  have hW := B.2.1
  refine gj_iload_n C dX3_lendable_4 2 rfl ?_
  refine gj_bipush (v := 10) C dX3_lendable_5 rfl ?_
  refine gj_aload_n C dX3_lendable_7 0 rfl ?_
  refine tg251 C hW dX3_lendable_8 ?_
  refine gj_imul C dX3_lendable_11 ?_
  refine gj_icmp_ge (tgt := 106) C dX3_lendable_12 rfl (fun c2 => ?_) (fun c2 => ?_)
  · have hw := it_t hw c2
    refine gj_iconst (v := (-1)) C dX3_lendable_106 rfl ?_
    exact gt_iret B hw dX3_lendable_107
  · have hw := it_f hw c2
    refine gj_iload_n C dX3_lendable_15 2 rfl ?_
    refine gj_bipush (v := 10) C dX3_lendable_16 rfl ?_
    refine gj_idiv C dX3_lendable_18 (by decide) ?_
    refine gj_topi (fun x3 ex3 => ?_)
    have hw := hw x3 ex3
    refine gj_istore (lc' := [(4, .int x3), (0, rv (t + 1)), (1, .int p1), (3, .int v3)]) C dX3_lendable_19 (Nat.le_of_ble_eq_true rfl) rfl ?_
    refine gj_iload_n C dX3_lendable_21 3 rfl ?_
    refine gj_bipush (v := 10) C dX3_lendable_22 rfl ?_
    refine gj_irem C dX3_lendable_24 (by decide) ?_
    refine gj_topi (fun x4 ex4 => ?_)
    have hw := hw x4 ex4
    refine gj_istore (lc' := [(5, .int x4), (4, .int x3), (0, rv (t + 1)), (1, .int p1), (3, .int v3)]) C dX3_lendable_25 (Nat.le_of_ble_eq_true rfl) rfl ?_
    refine gj_iload C dX3_lendable_27 0 rfl ?_
    refine gj_iconst (v := 1) C dX3_lendable_29 rfl ?_
    refine gj_icmp_eq (tgt := 39) C dX3_lendable_30 rfl (fun c5 => ?_) (fun c5 => ?_)
    · have hw := it_t hw c5
      refine gj_sub (lc' := [(0, rv (t + 1)), (1, .int p1), (3, .int v3), (4, .int x3), (5, .int x4)]) [2, 3, 4, 1, 0] rfl ?_
      exact wq_X3_lendable_39 B _ _ _ _ hX4 _ _ _ _ _ hw
    · have hw := it_f hw c5
      refine gj_iload C dX3_lendable_33 0 rfl ?_
      refine gj_iconst (v := 2) C dX3_lendable_35 rfl ?_
      refine gj_icmp_ne (tgt := 100) C dX3_lendable_36 rfl (fun c31 => ?_) (fun c31 => ?_)
      · have hw := it_f hw c31
        obtain ⟨x32, ex32⟩ : ∃ x32 : Int32, x32 = v3 + 1 := ⟨_, rfl⟩
        have hw := hw x32 ex32
        refine gj_iinc (lc' := [(3, .int x32), (5, .int x4), (4, .int x3), (0, rv (t + 1)), (1, .int p1)]) (w := 1) (v := x32) C dX3_lendable_100 4 rfl rfl ex32.symm (Nat.le_of_ble_eq_true rfl) rfl ?_
        refine gj_goto (tgt := 4) C dX3_lendable_103 rfl ?_
        refine gj_sub (lc' := [(0, rv (t + 1)), (1, .int p1), (3, .int x32)]) [3, 4, 0] rfl ?_
        exact hX4 _ _ _ hw
      · have hw := it_t hw c31
        refine gj_sub (lc' := [(0, rv (t + 1)), (1, .int p1), (3, .int v3), (4, .int x3), (5, .int x4)]) [2, 3, 4, 1, 0] rfl ?_
        exact wq_X3_lendable_39 B _ _ _ _ hX4 _ _ _ _ _ hw

theorem wq_X3_lendable_4 {g : Gm} {d : TD} {t : Nat} (B : BdT g d prog_11_method_86_code 6 (some .int) 3 69) (p1 : Int32) (p2 : Int32) (Φ : Int32 → (Nat → Nat → Int32) → Int64 → Prop) (v3 : Int32) (J : Nat → Nat → Int32) (lw : Int64) (hw : wl_X3_lendable_4 p1 p2 Φ v3 J lw) : GJ g 6 (TP d t J lw (gs g).heap) 0 (TQ g d t (ansI Φ)) 4 [(0, rv (t + 1)), (1, .int p1), (3, .int v3)] [] :=
  hw (fun v3 J lw => GJ g 6 (TP d t J lw (gs g).heap) 0 (TQ g d t (ansI Φ)) 4 [(0, rv (t + 1)), (1, .int p1), (3, .int v3)] []) (fun v3 J lw h => wk_X3_lendable_4 B p1 p2 Φ (fun v3 J lw => GJ g 6 (TP d t J lw (gs g).heap) 0 (TQ g d t (ansI Φ)) 4 [(0, rv (t + 1)), (1, .int p1), (3, .int v3)] []) (fun v3 J lw h => h) v3 J lw h)
def wp_X3_lendable (p1 : Int32) (p2 : Int32) (Φ : Int32 → (Nat → Nat → Int32) → Int64 → Prop) (J : Nat → Nat → Int32) (lw : Int64) : Prop :=
(∀ x1 : Int32, x1 = (p2 + 1) → wl_X3_lendable_4 p1 p2 Φ x1 J lw)
theorem wk_X3_lendable {g : Gm} {d : TD} {t : Nat} (B : BdT g d prog_11_method_86_code 6 (some .int) 3 69) (p1 : Int32) (p2 : Int32) (Φ : Int32 → (Nat → Nat → Int32) → Int64 → Prop) (J : Nat → Nat → Int32) (lw : Int64) (hw : wp_X3_lendable p1 p2 Φ J lw) : GJ g 6 (TP d t J lw (gs g).heap) 0 (TQ g d t (ansI Φ)) 0 [(0, rv (t + 1)), (1, .int p1), (2, .int p2)] [] := by
  unfold wp_X3_lendable at hw
  have C := B.1
  have hW := B.2.1
  refine gj_iload_n C dX3_lendable_0 2 rfl ?_
  refine gj_iconst (v := 1) C dX3_lendable_1 rfl ?_
  refine gj_iadd C dX3_lendable_2 ?_
  refine gj_topi (fun x1 ex1 => ?_)
  have hw := hw x1 ex1
  refine gj_istore_n (lc' := [(3, .int x1), (0, rv (t + 1)), (1, .int p1), (2, .int p2)]) C dX3_lendable_3 (Nat.le_of_ble_eq_true rfl) rfl ?_
  refine gj_sub (lc' := [(0, rv (t + 1)), (1, .int p1), (3, .int x1)]) [1, 2, 0] rfl ?_
  exact wq_X3_lendable_4 B _ _ _ _ _ _ hw

theorem met_X3_lendable (l : Launch) {d : TD} {t : Nat} {J : Nat → Nat → Int32} {lw : Int64} {p1 : Int32} {p2 : Int32} {Φ : Int32 → (Nat → Nat → Int32) → Int64 → Prop} (hw : wp_X3_lendable p1 p2 Φ J lw) : MetT l yX3_lendable prog_11_method_86_code 6 (some .int) 3 69 [.ref t, .int p1, .int p2] d t J lw (ansI Φ) :=
  mt_of (by decide +kernel) rfl (Nat.le_of_ble_eq_true rfl) (fun g _ B => wk_X3_lendable B _ _ _ J lw hw)
theorem tc_X3_lendable {g : Gm} {d : TD} {t : Nat} {cc : ByteArray} {nL : Nat} {ret : Option FieldType} {fr lo : Nat} (B : BdT g d cc nL ret fr lo) {J : Nat → Nat → Int32} {lw : Int64} {H0 : Heap} {Q : State → Prop} {pc : Nat} {lc : List (Nat × Value)} {rest : List Value} {p1 : Int32} {p2 : Int32} {Φ : Int32 → (Nat → Nat → Int32) → Int64 → Prop} (hw : wp_X3_lendable p1 p2 Φ J lw) (hf : 4 ≤ fr) (hlo : 94 ≤ lo) (hrest : (rest.map fun v => v.category).sum ≤ 8) (dg : decode cc pc = .ok (.invokevirtual 404, 3)) (k : ∀ (r : Int32) J' lw', Φ r J' lw' → GJ g nL (TP d t J' lw' H0) 0 Q (pc + 3) lc (.int r :: rest)) : GJ g nL (TP d t J lw H0) 0 Q pc lc (.int p2 :: .int p1 :: rv (t + 1) :: rest) :=
  gt_callV (n := 2) (As := [.int p1, .int p2]) B (met_X3_lendable g.2.1 hw) (lw_V q1727 q1729 qs86 q97 q1730) ⟨rfl, by decide +kernel, by decide +kernel, by decide +kernel⟩ rfl hf hlo ⟨Nat.zero_le _, Nat.zero_le _⟩ rfl hrest dg (fun v J' lw' hp => by obtain ⟨r, rfl, hp⟩ := hp; exact k r J' lw' hp)
/-! fewest(II)I -/
def wj_X3_fewest_213 (p1 : Int32) (p2 : Int32) (Φ : Int32 → (Nat → Nat → Int32) → Int64 → Prop) (v3 : Int32) (v4 : Int32) (J : Nat → Nat → Int32) (lw : Int64) : Prop :=
(if 0 ≤ v4 then (∀ J15 : Nat → Nat → Int32, J15 = u2 J 0 56 1 → (wp_X3_copies 57 58 (fun J16 l17 => (wp_X3_bits v3 (fun r21 J19 l20 => Φ r21 J19 l20) J16 l17)) J15 lw)) else Φ (-1) J lw)
theorem wq_X3_fewest_213 {g : Gm} {d : TD} {t : Nat} (B : BdT g d prog_11_method_87_code 7 (some .int) 4 94) (p1 : Int32) (p2 : Int32) (Φ : Int32 → (Nat → Nat → Int32) → Int64 → Prop) (v3 : Int32) (v4 : Int32) (J : Nat → Nat → Int32) (lw : Int64) (hw : wj_X3_fewest_213 p1 p2 Φ v3 v4 J lw) : GJ g 7 (TP d t J lw (gs g).heap) 0 (TQ g d t (ansI Φ)) 213 [(0, rv (t + 1)), (3, .int v3), (4, .int v4)] [] := by
  unfold wj_X3_fewest_213 at hw
  have C := B.1
  have hW := B.2.1
  refine gj_iload C dX3_fewest_213 2 rfl ?_
  refine gj_if_ge (tgt := 220) C dX3_fewest_215 rfl (fun c14 => ?_) (fun c14 => ?_)
  · have hw := it_t hw c14
    refine gj_aload_n C dX3_fewest_220 0 rfl ?_
    refine gj_iconst (v := 1) C dX3_fewest_221 rfl ?_
    refine tp273 C hW (Or.inr rfl) dX3_fewest_222 ?_
    refine gt_nmJ (fun J15 eJ15 => ?_)
    have hw := hw J15 eJ15
    refine gj_aload_n C dX3_fewest_225 0 rfl ?_
    refine gj_aload_n C dX3_fewest_226 0 rfl ?_
    refine tg110 C hW dX3_fewest_227 ?_
    refine gj_aload_n C dX3_fewest_230 0 rfl ?_
    refine tg113 C hW dX3_fewest_231 ?_
    refine tc_X3_copies B hw (Nat.le_of_ble_eq_true rfl) (Nat.le_of_ble_eq_true rfl) (Nat.le_of_ble_eq_true rfl) dX3_fewest_234 (fun J16 l17 hw => ?_)
    refine gj_iload_n C dX3_fewest_237 1 rfl ?_
    refine tc_X3_bits B hw (Nat.le_of_ble_eq_true rfl) (Nat.le_of_ble_eq_true rfl) (Nat.le_of_ble_eq_true rfl) dX3_fewest_238 (fun r21 J19 l20 hw => ?_)
    exact gt_iret B hw dX3_fewest_241
  · have hw := it_f hw c14
    refine gj_iconst (v := (-1)) C dX3_fewest_218 rfl ?_
    exact gt_iret B hw dX3_fewest_219

def wf_X3_fewest_190 (p1 : Int32) (p2 : Int32) (Φ : Int32 → (Nat → Nat → Int32) → Int64 → Prop) (X97 : Int32 → Int32 → (Nat → Nat → Int32) → Int64 → Prop) (X190 : Int32 → Int32 → (Nat → Nat → Int32) → Int64 → Prop) (v3 : Int32) (v4 : Int32) (J : Nat → Nat → Int32) (lw : Int64) : Prop :=
(if v4 < 0 then X97 v3 v4 J lw else (if ((v3 >>> (v4 &&& 31)) &&& 1) = 0 then (∀ x33 : Int32, x33 = v4 + (-1) → X190 v3 x33 J lw) else X97 v3 v4 J lw))
def wl_X3_fewest_190 (p1 : Int32) (p2 : Int32) (Φ : Int32 → (Nat → Nat → Int32) → Int64 → Prop) (X97 : Int32 → Int32 → (Nat → Nat → Int32) → Int64 → Prop) (v3 : Int32) (v4 : Int32) (J : Nat → Nat → Int32) (lw : Int64) : Prop := ∀ X190 : Int32 → Int32 → (Nat → Nat → Int32) → Int64 → Prop, (∀ v3 v4 J lw, wf_X3_fewest_190 p1 p2 Φ X97 X190 v3 v4 J lw → X190 v3 v4 J lw) → X190 v3 v4 J lw
theorem wk_X3_fewest_190 {g : Gm} {d : TD} {t : Nat} (B : BdT g d prog_11_method_87_code 7 (some .int) 4 94) (p1 : Int32) (p2 : Int32) (Φ : Int32 → (Nat → Nat → Int32) → Int64 → Prop) (X97 : Int32 → Int32 → (Nat → Nat → Int32) → Int64 → Prop) (X190 : Int32 → Int32 → (Nat → Nat → Int32) → Int64 → Prop) (hX97 : ∀ v3 v4 J lw, X97 v3 v4 J lw → GJ g 7 (TP d t J lw (gs g).heap) 0 (TQ g d t (ansI Φ)) 97 [(0, rv (t + 1)), (3, .int v3), (4, .int v4)] []) (hX190 : ∀ v3 v4 J lw, X190 v3 v4 J lw → GJ g 7 (TP d t J lw (gs g).heap) 0 (TQ g d t (ansI Φ)) 190 [(0, rv (t + 1)), (3, .int v3), (4, .int v4)] []) (v3 : Int32) (v4 : Int32) (J : Nat → Nat → Int32) (lw : Int64) (hw : wf_X3_fewest_190 p1 p2 Φ X97 X190 v3 v4 J lw) : GJ g 7 (TP d t J lw (gs g).heap) 0 (TQ g d t (ansI Φ)) 190 [(0, rv (t + 1)), (3, .int v3), (4, .int v4)] [] := by
  unfold wf_X3_fewest_190 at hw
  have C := B.1
  have hW := B.2.1
  refine gj_iload C dX3_fewest_190 2 rfl ?_
  refine gj_if_lt (tgt := 210) C dX3_fewest_192 rfl (fun c31 => ?_) (fun c31 => ?_)
  · have hw := it_t hw c31
    refine gj_goto (tgt := 97) C dX3_fewest_210 rfl ?_
    exact hX97 _ _ _ _ hw
  · have hw := it_f hw c31
    refine gj_iload_n C dX3_fewest_195 1 rfl ?_
    refine gj_iload C dX3_fewest_196 2 rfl ?_
    refine gj_ishr C dX3_fewest_198 ?_
    refine gj_iconst (v := 1) C dX3_fewest_199 rfl ?_
    refine gj_iand C dX3_fewest_200 ?_
    refine gj_if_ne (tgt := 210) C dX3_fewest_201 rfl (fun c32 => ?_) (fun c32 => ?_)
    · have hw := it_f hw c32
      refine gj_goto (tgt := 97) C dX3_fewest_210 rfl ?_
      exact hX97 _ _ _ _ hw
    · have hw := it_t hw c32
      obtain ⟨x33, ex33⟩ : ∃ x33 : Int32, x33 = v4 + (-1) := ⟨_, rfl⟩
      have hw := hw x33 ex33
      refine gj_iinc (lc' := [(4, .int x33), (0, rv (t + 1)), (3, .int v3)]) (w := (-1)) (v := x33) C dX3_fewest_204 2 rfl rfl ex33.symm (Nat.le_of_ble_eq_true rfl) rfl ?_
      refine gj_goto (tgt := 190) C dX3_fewest_207 rfl ?_
      refine gj_sub (lc' := [(0, rv (t + 1)), (3, .int v3), (4, .int x33)]) [1, 2, 0] rfl ?_
      exact hX190 _ _ _ _ hw

theorem wq_X3_fewest_190 {g : Gm} {d : TD} {t : Nat} (B : BdT g d prog_11_method_87_code 7 (some .int) 4 94) (p1 : Int32) (p2 : Int32) (Φ : Int32 → (Nat → Nat → Int32) → Int64 → Prop) (X97 : Int32 → Int32 → (Nat → Nat → Int32) → Int64 → Prop) (hX97 : ∀ v3 v4 J lw, X97 v3 v4 J lw → GJ g 7 (TP d t J lw (gs g).heap) 0 (TQ g d t (ansI Φ)) 97 [(0, rv (t + 1)), (3, .int v3), (4, .int v4)] []) (v3 : Int32) (v4 : Int32) (J : Nat → Nat → Int32) (lw : Int64) (hw : wl_X3_fewest_190 p1 p2 Φ X97 v3 v4 J lw) : GJ g 7 (TP d t J lw (gs g).heap) 0 (TQ g d t (ansI Φ)) 190 [(0, rv (t + 1)), (3, .int v3), (4, .int v4)] [] :=
  hw (fun v3 v4 J lw => GJ g 7 (TP d t J lw (gs g).heap) 0 (TQ g d t (ansI Φ)) 190 [(0, rv (t + 1)), (3, .int v3), (4, .int v4)] []) (fun v3 v4 J lw h => wk_X3_fewest_190 B p1 p2 Φ X97 (fun v3 v4 J lw => GJ g 7 (TP d t J lw (gs g).heap) 0 (TQ g d t (ansI Φ)) 190 [(0, rv (t + 1)), (3, .int v3), (4, .int v4)] []) hX97 (fun v3 v4 J lw h => h) v3 v4 J lw h)
def wj_X3_fewest_165 (p1 : Int32) (p2 : Int32) (Φ : Int32 → (Nat → Nat → Int32) → Int64 → Prop) (X97 : Int32 → Int32 → (Nat → Nat → Int32) → Int64 → Prop) (v3 : Int32) (v4 : Int32) (v5 : Int32) (J : Nat → Nat → Int32) (lw : Int64) : Prop :=
(if v5 = 0 then (∀ x27 : Int32, x27 = v4 + 1 → X97 v3 x27 J lw) else (vp_in v4 (tln 57) ∧ (if (J 57 (Int32.toNatClampNeg v4)) = (-1) then (∀ x30 : Int32, x30 = v4 + (-1) → wl_X3_fewest_190 p1 p2 Φ X97 v3 x30 J lw) else (∀ x34 : Int32, x34 = v4 + 1 → X97 v3 x34 J lw))))
theorem wq_X3_fewest_165 {g : Gm} {d : TD} {t : Nat} (B : BdT g d prog_11_method_87_code 7 (some .int) 4 94) (p1 : Int32) (p2 : Int32) (Φ : Int32 → (Nat → Nat → Int32) → Int64 → Prop) (X97 : Int32 → Int32 → (Nat → Nat → Int32) → Int64 → Prop) (hX97 : ∀ v3 v4 J lw, X97 v3 v4 J lw → GJ g 7 (TP d t J lw (gs g).heap) 0 (TQ g d t (ansI Φ)) 97 [(0, rv (t + 1)), (3, .int v3), (4, .int v4)] []) (v3 : Int32) (v4 : Int32) (v5 : Int32) (J : Nat → Nat → Int32) (lw : Int64) (hw : wj_X3_fewest_165 p1 p2 Φ X97 v3 v4 v5 J lw) : GJ g 7 (TP d t J lw (gs g).heap) 0 (TQ g d t (ansI Φ)) 165 [(0, rv (t + 1)), (3, .int v3), (4, .int v4), (5, .int v5)] [] := by
  unfold wj_X3_fewest_165 at hw
  have C := B.1
  have hW := B.2.1
  refine gj_iload C dX3_fewest_165 3 rfl ?_
  refine gj_if_eq (tgt := 181) C dX3_fewest_167 rfl (fun c26 => ?_) (fun c26 => ?_)
  · have hw := it_t hw c26
    obtain ⟨x27, ex27⟩ : ∃ x27 : Int32, x27 = v4 + 1 := ⟨_, rfl⟩
    have hw := hw x27 ex27
    refine gj_iinc (lc' := [(4, .int x27), (0, rv (t + 1)), (3, .int v3), (5, .int v5)]) (w := 1) (v := x27) C dX3_fewest_181 2 rfl rfl ex27.symm (Nat.le_of_ble_eq_true rfl) rfl ?_
    refine gj_goto (tgt := 97) C dX3_fewest_184 rfl ?_
    refine gj_sub (lc' := [(0, rv (t + 1)), (3, .int v3), (4, .int x27)]) [1, 2, 0] rfl ?_
    exact hX97 _ _ _ _ hw
  · have hw := it_f hw c26
    refine gj_aload_n C dX3_fewest_170 0 rfl ?_
    refine tg110 C hW dX3_fewest_171 ?_
    refine gj_iload C dX3_fewest_174 2 rfl ?_
    obtain ⟨h28, hw⟩ := hw
    refine gt_iald C hW (by decide) h28 dX3_fewest_176 ?_
    refine gj_iconst (v := (-1)) C dX3_fewest_177 rfl ?_
    refine gj_icmp_eq (tgt := 187) C dX3_fewest_178 rfl (fun c29 => ?_) (fun c29 => ?_)
    · have hw := it_t hw c29
      obtain ⟨x30, ex30⟩ : ∃ x30 : Int32, x30 = v4 + (-1) := ⟨_, rfl⟩
      have hw := hw x30 ex30
      refine gj_iinc (lc' := [(4, .int x30), (0, rv (t + 1)), (3, .int v3), (5, .int v5)]) (w := (-1)) (v := x30) C dX3_fewest_187 2 rfl rfl ex30.symm (Nat.le_of_ble_eq_true rfl) rfl ?_
      refine gj_sub (lc' := [(0, rv (t + 1)), (3, .int v3), (4, .int x30)]) [1, 2, 0] rfl ?_
      exact wq_X3_fewest_190 B _ _ _ _ hX97 _ _ _ _ hw
    · have hw := it_f hw c29
      obtain ⟨x34, ex34⟩ : ∃ x34 : Int32, x34 = v4 + 1 := ⟨_, rfl⟩
      have hw := hw x34 ex34
      refine gj_iinc (lc' := [(4, .int x34), (0, rv (t + 1)), (3, .int v3), (5, .int v5)]) (w := 1) (v := x34) C dX3_fewest_181 2 rfl rfl ex34.symm (Nat.le_of_ble_eq_true rfl) rfl ?_
      refine gj_goto (tgt := 97) C dX3_fewest_184 rfl ?_
      refine gj_sub (lc' := [(0, rv (t + 1)), (3, .int v3), (4, .int x34)]) [1, 2, 0] rfl ?_
      exact hX97 _ _ _ _ hw

def wf_X3_fewest_97 (p1 : Int32) (p2 : Int32) (Φ : Int32 → (Nat → Nat → Int32) → Int64 → Prop) (X97 : Int32 → Int32 → (Nat → Nat → Int32) → Int64 → Prop) (v3 : Int32) (v4 : Int32) (J : Nat → Nat → Int32) (lw : Int64) : Prop :=
(if v4 < 0 then wj_X3_fewest_213 p1 p2 Φ v3 v4 J lw else (if (J 0 2) ≤ v4 then wj_X3_fewest_213 p1 p2 Φ v3 v4 J lw else (∀ x23 : Int32, x23 = (if ((v3 >>> (v4 &&& 31)) &&& 1) = 1 then 1 else 0) → (if x23 = 0 then wj_X3_fewest_165 p1 p2 Φ X97 v3 v4 x23 J lw else (vp_in v4 (tln 57) ∧ (∀ x36 : Int32, x36 = (J 57 (Int32.toNatClampNeg v4)) → (vp_in v4 (tln 57) ∧ (∀ J38 : Nat → Nat → Int32, J38 = u2 J 57 (Int32.toNatClampNeg v4) (-1) → (wp_X3_lendable v4 x36 (fun r41 J39 l40 => (vp_in v4 (tln 57) ∧ (∀ J43 : Nat → Nat → Int32, J43 = u2 J39 57 (Int32.toNatClampNeg v4) r41 → wj_X3_fewest_165 p1 p2 Φ X97 v3 v4 x23 J43 l40))) J38 lw)))))))))
def wl_X3_fewest_97 (p1 : Int32) (p2 : Int32) (Φ : Int32 → (Nat → Nat → Int32) → Int64 → Prop) (v3 : Int32) (v4 : Int32) (J : Nat → Nat → Int32) (lw : Int64) : Prop := ∀ X97 : Int32 → Int32 → (Nat → Nat → Int32) → Int64 → Prop, (∀ v3 v4 J lw, wf_X3_fewest_97 p1 p2 Φ X97 v3 v4 J lw → X97 v3 v4 J lw) → X97 v3 v4 J lw
theorem wk_X3_fewest_97 {g : Gm} {d : TD} {t : Nat} (B : BdT g d prog_11_method_87_code 7 (some .int) 4 94) (p1 : Int32) (p2 : Int32) (Φ : Int32 → (Nat → Nat → Int32) → Int64 → Prop) (X97 : Int32 → Int32 → (Nat → Nat → Int32) → Int64 → Prop) (hX97 : ∀ v3 v4 J lw, X97 v3 v4 J lw → GJ g 7 (TP d t J lw (gs g).heap) 0 (TQ g d t (ansI Φ)) 97 [(0, rv (t + 1)), (3, .int v3), (4, .int v4)] []) (v3 : Int32) (v4 : Int32) (J : Nat → Nat → Int32) (lw : Int64) (hw : wf_X3_fewest_97 p1 p2 Φ X97 v3 v4 J lw) : GJ g 7 (TP d t J lw (gs g).heap) 0 (TQ g d t (ansI Φ)) 97 [(0, rv (t + 1)), (3, .int v3), (4, .int v4)] [] := by
  unfold wf_X3_fewest_97 at hw
  have C := B.1
  have hW := B.2.1
  refine gj_iload C dX3_fewest_97 2 rfl ?_
  refine gj_if_lt (tgt := 213) C dX3_fewest_99 rfl (fun c13 => ?_) (fun c13 => ?_)
  · have hw := it_t hw c13
    exact wq_X3_fewest_213 B _ _ _ _ _ _ _ hw
  · have hw := it_f hw c13
    refine gj_iload C dX3_fewest_102 2 rfl ?_
    refine gj_aload_n C dX3_fewest_104 0 rfl ?_
    refine tg251 C hW dX3_fewest_105 ?_
    refine gj_icmp_ge (tgt := 213) C dX3_fewest_108 rfl (fun c22 => ?_) (fun c22 => ?_)
    · have hw := it_t hw c22
      exact wq_X3_fewest_213 B _ _ _ _ _ _ _ hw
    · have hw := it_f hw c22
      refine gj_iload_n C dX3_fewest_111 1 rfl ?_
      refine gj_iload C dX3_fewest_112 2 rfl ?_
      refine gj_ishr C dX3_fewest_114 ?_
      refine gj_iconst (v := 1) C dX3_fewest_115 rfl ?_
      refine gj_iand C dX3_fewest_116 ?_
      refine gj_iconst (v := 1) C dX3_fewest_117 rfl ?_
      have key : ∀ x23 : Int32, x23 = (if ((v3 >>> (v4 &&& 31)) &&& 1) = 1 then 1 else 0) → GJ g 7 (TP d t J lw (gs g).heap) 0 (TQ g d t (ansI Φ)) 126 [(0, rv (t + 1)), (3, .int v3), (4, .int v4)] [.int x23] → GJ g 7 (TP d t J lw (gs g).heap) 0 (TQ g d t (ansI Φ)) 118 [(0, rv (t + 1)), (3, .int v3), (4, .int v4)] [.int 1, .int ((v3 >>> (v4 &&& 31)) &&& 1)] := by
        intro x23 ex23 kk
        refine gj_icmp_ne (tgt := 125) C dX3_fewest_118 rfl (fun c24 => ?_) (fun c24 => ?_)
        · refine gj_iconst (v := 0) C dX3_fewest_125 rfl ?_
          rw [if_neg c24] at ex23
          subst ex23
          exact kk
        · refine gj_iconst (v := 1) C dX3_fewest_121 rfl ?_
          refine gj_goto (tgt := 126) C dX3_fewest_122 rfl ?_
          rw [if_pos c24] at ex23
          subst ex23
          exact kk
      obtain ⟨x23, ex23⟩ : ∃ x23 : Int32, x23 = (if ((v3 >>> (v4 &&& 31)) &&& 1) = 1 then 1 else 0) := ⟨_, rfl⟩
      have bx23 : x23 = 0 ∨ x23 = 1 := by rw [ex23]; (repeat' split) <;> simp
      refine key x23 ex23 ?_
      have hw := hw x23 ex23
      clear key
      refine gj_istore (lc' := [(5, .int x23), (0, rv (t + 1)), (3, .int v3), (4, .int v4)]) C dX3_fewest_126 (Nat.le_of_ble_eq_true rfl) rfl ?_
      refine gj_iload C dX3_fewest_128 0 rfl ?_
      refine gj_if_eq (tgt := 165) C dX3_fewest_130 rfl (fun c25 => ?_) (fun c25 => ?_)
      · have hw := it_t hw c25
        refine gj_sub (lc' := [(0, rv (t + 1)), (3, .int v3), (4, .int v4), (5, .int x23)]) [1, 2, 3, 0] rfl ?_
        exact wq_X3_fewest_165 B _ _ _ _ hX97 _ _ _ _ _ hw
      · have hw := it_f hw c25
        refine gj_aload_n C dX3_fewest_133 1 rfl ?_
        refine tg110 C hW dX3_fewest_134 ?_
        refine gj_iload C dX3_fewest_137 3 rfl ?_
        obtain ⟨h35, hw⟩ := hw
        refine gt_iald C hW (by decide) h35 dX3_fewest_139 ?_
        refine gj_topi (fun x36 ex36 => ?_)
        have hw := hw x36 ex36
        refine gj_istore (lc' := [(6, .int x36), (5, .int x23), (0, rv (t + 1)), (3, .int v3), (4, .int v4)]) C dX3_fewest_140 (Nat.le_of_ble_eq_true rfl) rfl ?_
        refine gj_aload_n C dX3_fewest_142 2 rfl ?_
        refine tg110 C hW dX3_fewest_143 ?_
        refine gj_iload C dX3_fewest_146 4 rfl ?_
        refine gj_iconst (v := (-1)) C dX3_fewest_148 rfl ?_
        obtain ⟨h37, hw⟩ := hw
        refine gt_iast C hW (by decide) h37 dX3_fewest_149 ?_
        refine gt_nmJ (fun J38 eJ38 => ?_)
        have hw := hw J38 eJ38
        refine gj_aload_n C dX3_fewest_150 2 rfl ?_
        refine tg110 C hW dX3_fewest_151 ?_
        refine gj_iload C dX3_fewest_154 4 rfl ?_
        refine gj_aload_n C dX3_fewest_156 2 rfl ?_
        refine gj_iload C dX3_fewest_157 4 rfl ?_
        refine gj_iload C dX3_fewest_159 0 rfl ?_
        refine tc_X3_lendable B hw (Nat.le_of_ble_eq_true rfl) (Nat.le_of_ble_eq_true rfl) (Nat.le_of_ble_eq_true rfl) dX3_fewest_161 (fun r41 J39 l40 hw => ?_)
        obtain ⟨h42, hw⟩ := hw
        refine gt_iast C hW (by decide) h42 dX3_fewest_164 ?_
        refine gt_nmJ (fun J43 eJ43 => ?_)
        have hw := hw J43 eJ43
        refine gj_sub (lc' := [(0, rv (t + 1)), (3, .int v3), (4, .int v4), (5, .int x23)]) [2, 3, 4, 1] rfl ?_
        exact wq_X3_fewest_165 B _ _ _ _ hX97 _ _ _ _ _ hw

theorem wq_X3_fewest_97 {g : Gm} {d : TD} {t : Nat} (B : BdT g d prog_11_method_87_code 7 (some .int) 4 94) (p1 : Int32) (p2 : Int32) (Φ : Int32 → (Nat → Nat → Int32) → Int64 → Prop) (v3 : Int32) (v4 : Int32) (J : Nat → Nat → Int32) (lw : Int64) (hw : wl_X3_fewest_97 p1 p2 Φ v3 v4 J lw) : GJ g 7 (TP d t J lw (gs g).heap) 0 (TQ g d t (ansI Φ)) 97 [(0, rv (t + 1)), (3, .int v3), (4, .int v4)] [] :=
  hw (fun v3 v4 J lw => GJ g 7 (TP d t J lw (gs g).heap) 0 (TQ g d t (ansI Φ)) 97 [(0, rv (t + 1)), (3, .int v3), (4, .int v4)] []) (fun v3 v4 J lw h => wk_X3_fewest_97 B p1 p2 Φ (fun v3 v4 J lw => GJ g 7 (TP d t J lw (gs g).heap) 0 (TQ g d t (ansI Φ)) 97 [(0, rv (t + 1)), (3, .int v3), (4, .int v4)] []) (fun v3 v4 J lw h => h) v3 v4 J lw h)
def wf_X3_fewest_50 (p1 : Int32) (p2 : Int32) (Φ : Int32 → (Nat → Nat → Int32) → Int64 → Prop) (X50 : Int32 → Int32 → (Nat → Nat → Int32) → Int64 → Prop) (v3 : Int32) (v4 : Int32) (J : Nat → Nat → Int32) (lw : Int64) : Prop :=
(if (J 0 2) ≤ v4 then wl_X3_fewest_97 p1 p2 Φ v3 0 J lw else (wp_X3_isNeedy v4 0 (fun r46 J44 l45 => (∀ x47 : Int32, x47 = (if r46 = 0 then 0 else ((1 : Int32) <<< (v4 &&& 31))) → (∀ x49 : Int32, x49 = (v3 ||| x47) → (vp_in v4 (tln 57) ∧ (∀ J51 : Nat → Nat → Int32, J51 = u2 J44 57 (Int32.toNatClampNeg v4) (-1) → (∀ x52 : Int32, x52 = v4 + 1 → X50 x49 x52 J51 l45)))))) J lw))
def wl_X3_fewest_50 (p1 : Int32) (p2 : Int32) (Φ : Int32 → (Nat → Nat → Int32) → Int64 → Prop) (v3 : Int32) (v4 : Int32) (J : Nat → Nat → Int32) (lw : Int64) : Prop := ∀ X50 : Int32 → Int32 → (Nat → Nat → Int32) → Int64 → Prop, (∀ v3 v4 J lw, wf_X3_fewest_50 p1 p2 Φ X50 v3 v4 J lw → X50 v3 v4 J lw) → X50 v3 v4 J lw
theorem wk_X3_fewest_50 {g : Gm} {d : TD} {t : Nat} (B : BdT g d prog_11_method_87_code 7 (some .int) 4 94) (p1 : Int32) (p2 : Int32) (Φ : Int32 → (Nat → Nat → Int32) → Int64 → Prop) (X50 : Int32 → Int32 → (Nat → Nat → Int32) → Int64 → Prop) (hX50 : ∀ v3 v4 J lw, X50 v3 v4 J lw → GJ g 7 (TP d t J lw (gs g).heap) 0 (TQ g d t (ansI Φ)) 50 [(0, rv (t + 1)), (3, .int v3), (4, .int v4)] []) (v3 : Int32) (v4 : Int32) (J : Nat → Nat → Int32) (lw : Int64) (hw : wf_X3_fewest_50 p1 p2 Φ X50 v3 v4 J lw) : GJ g 7 (TP d t J lw (gs g).heap) 0 (TQ g d t (ansI Φ)) 50 [(0, rv (t + 1)), (3, .int v3), (4, .int v4)] [] := by
  unfold wf_X3_fewest_50 at hw
  have C := B.1
  have hW := B.2.1
  refine gj_iload C dX3_fewest_50 2 rfl ?_
  refine gj_aload_n C dX3_fewest_52 0 rfl ?_
  refine tg251 C hW dX3_fewest_53 ?_
  refine gj_icmp_ge (tgt := 94) C dX3_fewest_56 rfl (fun c12 => ?_) (fun c12 => ?_)
  · have hw := it_t hw c12
    refine gj_iconst (v := 0) C dX3_fewest_94 rfl ?_
    refine gj_istore (lc' := [(4, .int 0), (0, rv (t + 1)), (3, .int v3)]) C dX3_fewest_95 (Nat.le_of_ble_eq_true rfl) rfl ?_
    refine gj_sub (lc' := [(0, rv (t + 1)), (3, .int v3), (4, .int 0)]) [1, 2, 0] rfl ?_
    exact wq_X3_fewest_97 B _ _ _ _ _ _ _ hw
  · have hw := it_f hw c12
    refine gj_iload_n C dX3_fewest_59 1 rfl ?_
    refine gj_aload_n C dX3_fewest_60 0 rfl ?_
    refine gj_iload C dX3_fewest_61 2 rfl ?_
    refine gj_iconst (v := 0) C dX3_fewest_63 rfl ?_
    refine tc_X3_isNeedy B hw (Nat.le_of_ble_eq_true rfl) (Nat.le_of_ble_eq_true rfl) (Nat.le_of_ble_eq_true rfl) dX3_fewest_64 (fun r46 J44 l45 br46 hw => ?_)
    have key : ∀ x47 : Int32, x47 = (if r46 = 0 then 0 else ((1 : Int32) <<< (v4 &&& 31))) → GJ g 7 (TP d t J44 l45 (gs g).heap) 0 (TQ g d t (ansI Φ)) 78 [(0, rv (t + 1)), (3, .int v3), (4, .int v4)] [.int x47, .int v3] → GJ g 7 (TP d t J44 l45 (gs g).heap) 0 (TQ g d t (ansI Φ)) 67 [(0, rv (t + 1)), (3, .int v3), (4, .int v4)] [.int r46, .int v3] := by
      intro x47 ex47 kk
      refine gj_if_eq (tgt := 77) C dX3_fewest_67 rfl (fun c48 => ?_) (fun c48 => ?_)
      · refine gj_iconst (v := 0) C dX3_fewest_77 rfl ?_
        rw [if_pos c48] at ex47
        subst ex47
        exact kk
      · refine gj_iconst (v := 1) C dX3_fewest_70 rfl ?_
        refine gj_iload C dX3_fewest_71 2 rfl ?_
        refine gj_ishl C dX3_fewest_73 ?_
        refine gj_goto (tgt := 78) C dX3_fewest_74 rfl ?_
        rw [if_neg c48] at ex47
        subst ex47
        exact kk
    obtain ⟨x47, ex47⟩ : ∃ x47 : Int32, x47 = (if r46 = 0 then 0 else ((1 : Int32) <<< (v4 &&& 31))) := ⟨_, rfl⟩
    refine key x47 ex47 ?_
    have hw := hw x47 ex47
    clear key
    refine gj_ior C dX3_fewest_78 ?_
    refine gj_topi (fun x49 ex49 => ?_)
    have hw := hw x49 ex49
    refine gj_istore_n (lc' := [(3, .int x49), (0, rv (t + 1)), (4, .int v4)]) C dX3_fewest_79 (Nat.le_of_ble_eq_true rfl) rfl ?_
    refine gj_aload_n C dX3_fewest_80 1 rfl ?_
    refine tg110 C hW dX3_fewest_81 ?_
    refine gj_iload C dX3_fewest_84 2 rfl ?_
    refine gj_iconst (v := (-1)) C dX3_fewest_86 rfl ?_
    obtain ⟨h50, hw⟩ := hw
    refine gt_iast C hW (by decide) h50 dX3_fewest_87 ?_
    refine gt_nmJ (fun J51 eJ51 => ?_)
    have hw := hw J51 eJ51
    obtain ⟨x52, ex52⟩ : ∃ x52 : Int32, x52 = v4 + 1 := ⟨_, rfl⟩
    have hw := hw x52 ex52
    refine gj_iinc (lc' := [(4, .int x52), (3, .int x49), (0, rv (t + 1))]) (w := 1) (v := x52) C dX3_fewest_88 2 rfl rfl ex52.symm (Nat.le_of_ble_eq_true rfl) rfl ?_
    refine gj_goto (tgt := 50) C dX3_fewest_91 rfl ?_
    refine gj_sub (lc' := [(0, rv (t + 1)), (3, .int x49), (4, .int x52)]) [2, 1, 0] rfl ?_
    exact hX50 _ _ _ _ hw

theorem wq_X3_fewest_50 {g : Gm} {d : TD} {t : Nat} (B : BdT g d prog_11_method_87_code 7 (some .int) 4 94) (p1 : Int32) (p2 : Int32) (Φ : Int32 → (Nat → Nat → Int32) → Int64 → Prop) (v3 : Int32) (v4 : Int32) (J : Nat → Nat → Int32) (lw : Int64) (hw : wl_X3_fewest_50 p1 p2 Φ v3 v4 J lw) : GJ g 7 (TP d t J lw (gs g).heap) 0 (TQ g d t (ansI Φ)) 50 [(0, rv (t + 1)), (3, .int v3), (4, .int v4)] [] :=
  hw (fun v3 v4 J lw => GJ g 7 (TP d t J lw (gs g).heap) 0 (TQ g d t (ansI Φ)) 50 [(0, rv (t + 1)), (3, .int v3), (4, .int v4)] []) (fun v3 v4 J lw h => wk_X3_fewest_50 B p1 p2 Φ (fun v3 v4 J lw => GJ g 7 (TP d t J lw (gs g).heap) 0 (TQ g d t (ansI Φ)) 50 [(0, rv (t + 1)), (3, .int v3), (4, .int v4)] []) (fun v3 v4 J lw h => h) v3 v4 J lw h)
def wp_X3_fewest (p1 : Int32) (p2 : Int32) (Φ : Int32 → (Nat → Nat → Int32) → Int64 → Prop) (J : Nat → Nat → Int32) (lw : Int64) : Prop :=
(∀ J1 : Nat → Nat → Int32, J1 = u2 J 0 0 0 → (∀ x2 : Int32, x2 = (if p1 < 0 then 0 else (if 23 < p2 then 0 else (if p2 < p1 then 0 else 1))) → (wp_X3_right x2 1 (fun r8 J6 l7 => (if r8 = 0 then Φ 0 J6 l7 else (∀ J10 : Nat → Nat → Int32, J10 = u2 J6 0 59 p1 → (∀ J11 : Nat → Nat → Int32, J11 = u2 J10 0 60 p2 → wl_X3_fewest_50 p1 p2 Φ 0 0 J11 l7)))) J1 lw)))
theorem wk_X3_fewest {g : Gm} {d : TD} {t : Nat} (B : BdT g d prog_11_method_87_code 7 (some .int) 4 94) (p1 : Int32) (p2 : Int32) (Φ : Int32 → (Nat → Nat → Int32) → Int64 → Prop) (J : Nat → Nat → Int32) (lw : Int64) (hw : wp_X3_fewest p1 p2 Φ J lw) : GJ g 7 (TP d t J lw (gs g).heap) 0 (TQ g d t (ansI Φ)) 0 [(0, rv (t + 1)), (1, .int p1), (2, .int p2)] [] := by
  unfold wp_X3_fewest at hw
  have C := B.1
  have hW := B.2.1
  refine gj_aload_n C dX3_fewest_0 0 rfl ?_
  refine gj_iconst (v := 0) C dX3_fewest_1 rfl ?_
  refine tp134 C hW dX3_fewest_2 ?_
  refine gt_nmJ (fun J1 eJ1 => ?_)
  have hw := hw J1 eJ1
  refine gj_aload_n C dX3_fewest_5 0 rfl ?_
  refine gj_iload_n C dX3_fewest_6 1 rfl ?_
  have key : ∀ x2 : Int32, x2 = (if p1 < 0 then 0 else (if 23 < p2 then 0 else (if p2 < p1 then 0 else 1))) → GJ g 7 (TP d t J1 lw (gs g).heap) 0 (TQ g d t (ansI Φ)) 26 [(0, rv (t + 1)), (1, .int p1), (2, .int p2)] [.int x2, rv (t + 1)] → GJ g 7 (TP d t J1 lw (gs g).heap) 0 (TQ g d t (ansI Φ)) 7 [(0, rv (t + 1)), (1, .int p1), (2, .int p2)] [.int p1, rv (t + 1)] := by
    intro x2 ex2 kk
    refine gj_if_lt (tgt := 25) C dX3_fewest_7 rfl (fun c3 => ?_) (fun c3 => ?_)
    · refine gj_iconst (v := 0) C dX3_fewest_25 rfl ?_
      rw [if_pos c3] at ex2
      subst ex2
      exact kk
    · refine gj_iload_n C dX3_fewest_10 2 rfl ?_
      refine gj_bipush (v := 23) C dX3_fewest_11 rfl ?_
      refine gj_icmp_gt (tgt := 25) C dX3_fewest_13 rfl (fun c4 => ?_) (fun c4 => ?_)
      · refine gj_iconst (v := 0) C dX3_fewest_25 rfl ?_
        rw [if_neg c3, if_pos c4] at ex2
        subst ex2
        exact kk
      · refine gj_iload_n C dX3_fewest_16 1 rfl ?_
        refine gj_iload_n C dX3_fewest_17 2 rfl ?_
        refine gj_icmp_gt (tgt := 25) C dX3_fewest_18 rfl (fun c5 => ?_) (fun c5 => ?_)
        · refine gj_iconst (v := 0) C dX3_fewest_25 rfl ?_
          rw [if_neg c3, if_neg c4, if_pos c5] at ex2
          subst ex2
          exact kk
        · refine gj_iconst (v := 1) C dX3_fewest_21 rfl ?_
          refine gj_goto (tgt := 26) C dX3_fewest_22 rfl ?_
          rw [if_neg c3, if_neg c4, if_neg c5] at ex2
          subst ex2
          exact kk
  obtain ⟨x2, ex2⟩ : ∃ x2 : Int32, x2 = (if p1 < 0 then 0 else (if 23 < p2 then 0 else (if p2 < p1 then 0 else 1))) := ⟨_, rfl⟩
  have bx2 : x2 = 0 ∨ x2 = 1 := by rw [ex2]; (repeat' split) <;> simp
  refine key x2 ex2 ?_
  have hw := hw x2 ex2
  clear key
  refine gj_iconst (v := 1) C dX3_fewest_26 rfl ?_
  refine tc_X3_right B hw (Nat.le_of_ble_eq_true rfl) (Nat.le_of_ble_eq_true rfl) (Nat.le_of_ble_eq_true rfl) dX3_fewest_27 (fun r8 J6 l7 br8 hw => ?_)
  refine gj_if_ne (tgt := 35) C dX3_fewest_30 rfl (fun c9 => ?_) (fun c9 => ?_)
  · have hw := it_f hw c9
    refine gj_aload_n C dX3_fewest_35 0 rfl ?_
    refine gj_iload_n C dX3_fewest_36 1 rfl ?_
    refine tp389 C hW dX3_fewest_37 ?_
    refine gt_nmJ (fun J10 eJ10 => ?_)
    have hw := hw J10 eJ10
    refine gj_aload_n C dX3_fewest_40 0 rfl ?_
    refine gj_iload_n C dX3_fewest_41 2 rfl ?_
    refine tp392 C hW dX3_fewest_42 ?_
    refine gt_nmJ (fun J11 eJ11 => ?_)
    have hw := hw J11 eJ11
    refine gj_iconst (v := 0) C dX3_fewest_45 rfl ?_
    refine gj_istore_n (lc' := [(3, .int 0), (0, rv (t + 1)), (1, .int p1), (2, .int p2)]) C dX3_fewest_46 (Nat.le_of_ble_eq_true rfl) rfl ?_
    refine gj_iconst (v := 0) C dX3_fewest_47 rfl ?_
    refine gj_istore (lc' := [(4, .int 0), (3, .int 0), (0, rv (t + 1)), (1, .int p1), (2, .int p2)]) C dX3_fewest_48 (Nat.le_of_ble_eq_true rfl) rfl ?_
    refine gj_sub (lc' := [(0, rv (t + 1)), (3, .int 0), (4, .int 0)]) [2, 1, 0] rfl ?_
    exact wq_X3_fewest_50 B _ _ _ _ _ _ _ hw
  · have hw := it_t hw c9
    refine gj_iconst (v := 0) C dX3_fewest_33 rfl ?_
    exact gt_iret B hw dX3_fewest_34

theorem met_X3_fewest (l : Launch) {d : TD} {t : Nat} {J : Nat → Nat → Int32} {lw : Int64} {p1 : Int32} {p2 : Int32} {Φ : Int32 → (Nat → Nat → Int32) → Int64 → Prop} (hw : wp_X3_fewest p1 p2 Φ J lw) : MetT l yX3_fewest prog_11_method_87_code 7 (some .int) 4 94 [.ref t, .int p1, .int p2] d t J lw (ansI Φ) :=
  mt_of (by decide +kernel) rfl (Nat.le_of_ble_eq_true rfl) (fun g _ B => wk_X3_fewest B _ _ _ J lw hw)
/-! lender(I)I -/
def wp_X3_lender (p1 : Int32) (Φ : Int32 → (Nat → Nat → Int32) → Int64 → Prop) (J : Nat → Nat → Int32) (lw : Int64) : Prop :=
(∀ J1 : Nat → Nat → Int32, J1 = u2 J 0 0 0 → (wp_X3_isLodger p1 (fun r4 J2 l3 => (if r4 = 0 then Φ 0 J2 l3 else (wp_X3_right (J2 0 56) 1 (fun r8 J6 l7 => (if r8 = 0 then Φ 0 J6 l7 else (vp_in p1 (tln 58) ∧ Φ (J6 58 (Int32.toNatClampNeg p1)) J6 l7))) J2 l3))) J1 lw))
theorem wk_X3_lender {g : Gm} {d : TD} {t : Nat} (B : BdT g d prog_11_method_88_code 2 (some .int) 2 43) (p1 : Int32) (Φ : Int32 → (Nat → Nat → Int32) → Int64 → Prop) (J : Nat → Nat → Int32) (lw : Int64) (hw : wp_X3_lender p1 Φ J lw) : GJ g 2 (TP d t J lw (gs g).heap) 0 (TQ g d t (ansI Φ)) 0 [(0, rv (t + 1)), (1, .int p1)] [] := by
  unfold wp_X3_lender at hw
  have C := B.1
  have hW := B.2.1
  refine gj_aload_n C dX3_lender_0 0 rfl ?_
  refine gj_iconst (v := 0) C dX3_lender_1 rfl ?_
  refine tp134 C hW dX3_lender_2 ?_
  refine gt_nmJ (fun J1 eJ1 => ?_)
  have hw := hw J1 eJ1
  refine gj_aload_n C dX3_lender_5 0 rfl ?_
  refine gj_iload_n C dX3_lender_6 1 rfl ?_
  refine tc_X3_isLodger B hw (Nat.le_of_ble_eq_true rfl) (Nat.le_of_ble_eq_true rfl) (Nat.le_of_ble_eq_true rfl) dX3_lender_7 (fun r4 J2 l3 br4 hw => ?_)
  refine gj_if_eq (tgt := 34) C dX3_lender_10 rfl (fun c5 => ?_) (fun c5 => ?_)
  · have hw := it_t hw c5
    refine gj_iconst (v := 0) C dX3_lender_34 rfl ?_
    exact gt_iret B hw dX3_lender_35
  · have hw := it_f hw c5
    refine gj_aload_n C dX3_lender_13 0 rfl ?_
    refine gj_aload_n C dX3_lender_14 0 rfl ?_
    refine tg273 C hW dX3_lender_15 ?_
    refine gj_iconst (v := 1) C dX3_lender_18 rfl ?_
    refine tc_X3_right B hw (Nat.le_of_ble_eq_true rfl) (Nat.le_of_ble_eq_true rfl) (Nat.le_of_ble_eq_true rfl) dX3_lender_19 (fun r8 J6 l7 br8 hw => ?_)
    refine gj_if_eq (tgt := 34) C dX3_lender_22 rfl (fun c9 => ?_) (fun c9 => ?_)
    · have hw := it_t hw c9
      refine gj_iconst (v := 0) C dX3_lender_34 rfl ?_
      exact gt_iret B hw dX3_lender_35
    · have hw := it_f hw c9
      refine gj_aload_n C dX3_lender_25 0 rfl ?_
      refine tg113 C hW dX3_lender_26 ?_
      refine gj_iload_n C dX3_lender_29 1 rfl ?_
      obtain ⟨h10, hw⟩ := hw
      refine gt_iald C hW (by decide) h10 dX3_lender_30 ?_
      refine gj_goto (tgt := 35) C dX3_lender_31 rfl ?_
      exact gt_iret B hw dX3_lender_35

theorem met_X3_lender (l : Launch) {d : TD} {t : Nat} {J : Nat → Nat → Int32} {lw : Int64} {p1 : Int32} {Φ : Int32 → (Nat → Nat → Int32) → Int64 → Prop} (hw : wp_X3_lender p1 Φ J lw) : MetT l yX3_lender prog_11_method_88_code 2 (some .int) 2 43 [.ref t, .int p1] d t J lw (ansI Φ) :=
  mt_of (by decide +kernel) rfl (Nat.le_of_ble_eq_true rfl) (fun g _ B => wk_X3_lender B _ _ J lw hw)
/-! isCode(II)Z -/
def wj_X3_isCode_25 (p1 : Int32) (p2 : Int32) (Φ : Int32 → (Nat → Nat → Int32) → Int64 → Prop) (s0 : Int32) (J : Nat → Nat → Int32) (lw : Int64) : Prop :=
(wp_X3_right s0 1 (fun r7 J5 l6 => Φ r7 J5 l6) J lw)
theorem wq_X3_isCode_25 {g : Gm} {d : TD} {t : Nat} (B : BdT g d prog_11_method_91_code 3 (some .boolean) 1 22) (p1 : Int32) (p2 : Int32) (Φ : Int32 → (Nat → Nat → Int32) → Int64 → Prop) (s0 : Int32) (J : Nat → Nat → Int32) (lw : Int64) (hw : wj_X3_isCode_25 p1 p2 Φ s0 J lw) : GJ g 3 (TP d t J lw (gs g).heap) 0 (TQ g d t (ansZ Φ)) 25 [] [.int s0, rv (t + 1)] := by
  unfold wj_X3_isCode_25 at hw
  have C := B.1
  have hW := B.2.1
  refine gj_iconst (v := 1) C dX3_isCode_25 rfl ?_
  refine tc_X3_right B hw (Nat.le_of_ble_eq_true rfl) (Nat.le_of_ble_eq_true rfl) (Nat.le_of_ble_eq_true rfl) dX3_isCode_26 (fun r7 J5 l6 br7 hw => ?_)
  exact gt_zret B (br7) hw dX3_isCode_29

def wj_X3_isCode_24 (p1 : Int32) (p2 : Int32) (Φ : Int32 → (Nat → Nat → Int32) → Int64 → Prop) (J : Nat → Nat → Int32) (lw : Int64) : Prop :=
wj_X3_isCode_25 p1 p2 Φ 0 J lw
theorem wq_X3_isCode_24 {g : Gm} {d : TD} {t : Nat} (B : BdT g d prog_11_method_91_code 3 (some .boolean) 1 22) (p1 : Int32) (p2 : Int32) (Φ : Int32 → (Nat → Nat → Int32) → Int64 → Prop) (J : Nat → Nat → Int32) (lw : Int64) (hw : wj_X3_isCode_24 p1 p2 Φ J lw) : GJ g 3 (TP d t J lw (gs g).heap) 0 (TQ g d t (ansZ Φ)) 24 [] [rv (t + 1)] := by
  unfold wj_X3_isCode_24 at hw
  have C := B.1
  have hW := B.2.1
  refine gj_iconst (v := 0) C dX3_isCode_24 rfl ?_
  exact wq_X3_isCode_25 B _ _ _ _ _ _ hw

def wp_X3_isCode (p1 : Int32) (p2 : Int32) (Φ : Int32 → (Nat → Nat → Int32) → Int64 → Prop) (J : Nat → Nat → Int32) (lw : Int64) : Prop :=
(wp_X3_within p1 1 40 (fun r3 J1 l2 => (if r3 = 0 then wj_X3_isCode_24 p1 p2 Φ J1 l2 else (wp_X3_within p2 1 3 (fun r10 J8 l9 => (∀ x11 : Int32, x11 = (if r10 = 0 then 0 else 1) → (wp_X3_right x11 1 (fun r15 J13 l14 => Φ r15 J13 l14) J8 l9))) J1 l2))) J lw)
theorem wk_X3_isCode {g : Gm} {d : TD} {t : Nat} (B : BdT g d prog_11_method_91_code 3 (some .boolean) 1 22) (p1 : Int32) (p2 : Int32) (Φ : Int32 → (Nat → Nat → Int32) → Int64 → Prop) (J : Nat → Nat → Int32) (lw : Int64) (hw : wp_X3_isCode p1 p2 Φ J lw) : GJ g 3 (TP d t J lw (gs g).heap) 0 (TQ g d t (ansZ Φ)) 0 [(0, rv (t + 1)), (1, .int p1), (2, .int p2)] [] := by
  unfold wp_X3_isCode at hw
  have C := B.1
  have hW := B.2.1
  refine gj_aload_n C dX3_isCode_0 0 rfl ?_
  refine gj_iload_n C dX3_isCode_1 1 rfl ?_
  refine gj_iconst (v := 1) C dX3_isCode_2 rfl ?_
  refine gj_bipush (v := 40) C dX3_isCode_3 rfl ?_
  refine tc_X3_within B hw (Nat.le_of_ble_eq_true rfl) (Nat.le_of_ble_eq_true rfl) (Nat.le_of_ble_eq_true rfl) dX3_isCode_5 (fun r3 J1 l2 br3 hw => ?_)
  refine gj_if_eq (tgt := 24) C dX3_isCode_8 rfl (fun c4 => ?_) (fun c4 => ?_)
  · have hw := it_t hw c4
    refine gj_sub (lc' := []) [] rfl ?_
    exact wq_X3_isCode_24 B _ _ _ _ _ hw
  · have hw := it_f hw c4
    refine gj_iload_n C dX3_isCode_11 2 rfl ?_
    refine gj_iconst (v := 1) C dX3_isCode_12 rfl ?_
    refine gj_iconst (v := 3) C dX3_isCode_13 rfl ?_
    refine tc_X3_within B hw (Nat.le_of_ble_eq_true rfl) (Nat.le_of_ble_eq_true rfl) (Nat.le_of_ble_eq_true rfl) dX3_isCode_14 (fun r10 J8 l9 br10 hw => ?_)
    have key : ∀ x11 : Int32, x11 = (if r10 = 0 then 0 else 1) → GJ g 3 (TP d t J8 l9 (gs g).heap) 0 (TQ g d t (ansZ Φ)) 25 [(0, rv (t + 1)), (1, .int p1), (2, .int p2)] [.int x11, rv (t + 1)] → GJ g 3 (TP d t J8 l9 (gs g).heap) 0 (TQ g d t (ansZ Φ)) 17 [(0, rv (t + 1)), (1, .int p1), (2, .int p2)] [.int r10, rv (t + 1)] := by
      intro x11 ex11 kk
      refine gj_if_eq (tgt := 24) C dX3_isCode_17 rfl (fun c12 => ?_) (fun c12 => ?_)
      · refine gj_iconst (v := 0) C dX3_isCode_24 rfl ?_
        rw [if_pos c12] at ex11
        subst ex11
        exact kk
      · refine gj_iconst (v := 1) C dX3_isCode_20 rfl ?_
        refine gj_goto (tgt := 25) C dX3_isCode_21 rfl ?_
        rw [if_neg c12] at ex11
        subst ex11
        exact kk
    obtain ⟨x11, ex11⟩ : ∃ x11 : Int32, x11 = (if r10 = 0 then 0 else 1) := ⟨_, rfl⟩
    have bx11 : x11 = 0 ∨ x11 = 1 := by rw [ex11]; (repeat' split) <;> simp
    refine key x11 ex11 ?_
    have hw := hw x11 ex11
    clear key
    refine gj_iconst (v := 1) C dX3_isCode_25 rfl ?_
    refine tc_X3_right B hw (Nat.le_of_ble_eq_true rfl) (Nat.le_of_ble_eq_true rfl) (Nat.le_of_ble_eq_true rfl) dX3_isCode_26 (fun r15 J13 l14 br15 hw => ?_)
    exact gt_zret B (br15) hw dX3_isCode_29

theorem met_X3_isCode (l : Launch) {d : TD} {t : Nat} {J : Nat → Nat → Int32} {lw : Int64} {p1 : Int32} {p2 : Int32} {Φ : Int32 → (Nat → Nat → Int32) → Int64 → Prop} (hw : wp_X3_isCode p1 p2 Φ J lw) : MetT l yX3_isCode prog_11_method_91_code 3 (some .boolean) 1 22 [.ref t, .int p1, .int p2] d t J lw (ansZ Φ) :=
  mt_of (by decide +kernel) rfl (Nat.le_of_ble_eq_true rfl) (fun g _ B => wk_X3_isCode B _ _ _ J lw hw)
theorem tc_X3_isCode {g : Gm} {d : TD} {t : Nat} {cc : ByteArray} {nL : Nat} {ret : Option FieldType} {fr lo : Nat} (B : BdT g d cc nL ret fr lo) {J : Nat → Nat → Int32} {lw : Int64} {H0 : Heap} {Q : State → Prop} {pc : Nat} {lc : List (Nat × Value)} {rest : List Value} {p1 : Int32} {p2 : Int32} {Φ : Int32 → (Nat → Nat → Int32) → Int64 → Prop} (hw : wp_X3_isCode p1 p2 Φ J lw) (hf : 2 ≤ fr) (hlo : 44 ≤ lo) (hrest : (rest.map fun v => v.category).sum ≤ 8) (dg : decode cc pc = .ok (.invokevirtual 413, 3)) (k : ∀ (r : Int32) J' lw', (r = 0 ∨ r = 1) → Φ r J' lw' → GJ g nL (TP d t J' lw' H0) 0 Q (pc + 3) lc (.int r :: rest)) : GJ g nL (TP d t J lw H0) 0 Q pc lc (.int p2 :: .int p1 :: rv (t + 1) :: rest) :=
  gt_callV (n := 2) (As := [.int p1, .int p2]) B (met_X3_isCode g.2.1 hw) (lw_V q1747 q1749 qs89 q97 q1750) ⟨rfl, by decide +kernel, by decide +kernel, by decide +kernel⟩ rfl hf hlo ⟨Nat.zero_le _, Nat.zero_le _⟩ rfl hrest dg (fun v J' lw' hp => by obtain ⟨r, rfl, hb, hp⟩ := hp; exact k r J' lw' hb hp)
/-! apart(II)I -/
def wf_X3_apart_4 (p0 : Int32) (p1 : Int32) (Φ : Int32 → (Nat → Nat → Int32) → Int64 → Prop) (X4 : Int32 → Int32 → (Nat → Nat → Int32) → Int64 → Prop) (v2 : Int32) (v3 : Int32) (J : Nat → Nat → Int32) (lw : Int64) : Prop :=
(if 8 ≤ v3 then Φ v2 J lw else (∀ x2 : Int32, x2 = (v2 + (((p0 >>> (v3 &&& 31)) ^^^ (p1 >>> (v3 &&& 31))) &&& 1)) → (∀ x3 : Int32, x3 = v3 + 1 → X4 x2 x3 J lw)))
def wl_X3_apart_4 (p0 : Int32) (p1 : Int32) (Φ : Int32 → (Nat → Nat → Int32) → Int64 → Prop) (v2 : Int32) (v3 : Int32) (J : Nat → Nat → Int32) (lw : Int64) : Prop := ∀ X4 : Int32 → Int32 → (Nat → Nat → Int32) → Int64 → Prop, (∀ v2 v3 J lw, wf_X3_apart_4 p0 p1 Φ X4 v2 v3 J lw → X4 v2 v3 J lw) → X4 v2 v3 J lw
theorem wk_X3_apart_4 {g : Gm} {d : TD} {t : Nat} (B : BdT g d prog_11_method_89_code 4 (some .int) 0 0) (p0 : Int32) (p1 : Int32) (Φ : Int32 → (Nat → Nat → Int32) → Int64 → Prop) (X4 : Int32 → Int32 → (Nat → Nat → Int32) → Int64 → Prop) (hX4 : ∀ v2 v3 J lw, X4 v2 v3 J lw → GJ g 4 (TP d t J lw (gs g).heap) 0 (TQ g d t (ansI Φ)) 4 [(0, .int p0), (1, .int p1), (2, .int v2), (3, .int v3)] []) (v2 : Int32) (v3 : Int32) (J : Nat → Nat → Int32) (lw : Int64) (hw : wf_X3_apart_4 p0 p1 Φ X4 v2 v3 J lw) : GJ g 4 (TP d t J lw (gs g).heap) 0 (TQ g d t (ansI Φ)) 4 [(0, .int p0), (1, .int p1), (2, .int v2), (3, .int v3)] [] := by
  unfold wf_X3_apart_4 at hw
  have C := B.1
  have hW := B.2.1
  refine gj_iload_n C dX3_apart_4 3 rfl ?_
  refine gj_bipush (v := 8) C dX3_apart_5 rfl ?_
  refine gj_icmp_ge (tgt := 28) C dX3_apart_7 rfl (fun c1 => ?_) (fun c1 => ?_)
  · have hw := it_t hw c1
    refine gj_iload_n C dX3_apart_28 2 rfl ?_
    exact gt_iret B hw dX3_apart_29
  · have hw := it_f hw c1
    refine gj_iload_n C dX3_apart_10 2 rfl ?_
    refine gj_iload_n C dX3_apart_11 0 rfl ?_
    refine gj_iload_n C dX3_apart_12 3 rfl ?_
    refine gj_ishr C dX3_apart_13 ?_
    refine gj_iload_n C dX3_apart_14 1 rfl ?_
    refine gj_iload_n C dX3_apart_15 3 rfl ?_
    refine gj_ishr C dX3_apart_16 ?_
    refine gj_ixor C dX3_apart_17 ?_
    refine gj_iconst (v := 1) C dX3_apart_18 rfl ?_
    refine gj_iand C dX3_apart_19 ?_
    refine gj_iadd C dX3_apart_20 ?_
    refine gj_topi (fun x2 ex2 => ?_)
    have hw := hw x2 ex2
    refine gj_istore_n (lc' := [(2, .int x2), (0, .int p0), (1, .int p1), (3, .int v3)]) C dX3_apart_21 (Nat.le_of_ble_eq_true rfl) rfl ?_
    obtain ⟨x3, ex3⟩ : ∃ x3 : Int32, x3 = v3 + 1 := ⟨_, rfl⟩
    have hw := hw x3 ex3
    refine gj_iinc (lc' := [(3, .int x3), (2, .int x2), (0, .int p0), (1, .int p1)]) (w := 1) (v := x3) C dX3_apart_22 3 rfl rfl ex3.symm (Nat.le_of_ble_eq_true rfl) rfl ?_
    refine gj_goto (tgt := 4) C dX3_apart_25 rfl ?_
    refine gj_sub (lc' := [(0, .int p0), (1, .int p1), (2, .int x2), (3, .int x3)]) [2, 3, 1, 0] rfl ?_
    exact hX4 _ _ _ _ hw

theorem wq_X3_apart_4 {g : Gm} {d : TD} {t : Nat} (B : BdT g d prog_11_method_89_code 4 (some .int) 0 0) (p0 : Int32) (p1 : Int32) (Φ : Int32 → (Nat → Nat → Int32) → Int64 → Prop) (v2 : Int32) (v3 : Int32) (J : Nat → Nat → Int32) (lw : Int64) (hw : wl_X3_apart_4 p0 p1 Φ v2 v3 J lw) : GJ g 4 (TP d t J lw (gs g).heap) 0 (TQ g d t (ansI Φ)) 4 [(0, .int p0), (1, .int p1), (2, .int v2), (3, .int v3)] [] :=
  hw (fun v2 v3 J lw => GJ g 4 (TP d t J lw (gs g).heap) 0 (TQ g d t (ansI Φ)) 4 [(0, .int p0), (1, .int p1), (2, .int v2), (3, .int v3)] []) (fun v2 v3 J lw h => wk_X3_apart_4 B p0 p1 Φ (fun v2 v3 J lw => GJ g 4 (TP d t J lw (gs g).heap) 0 (TQ g d t (ansI Φ)) 4 [(0, .int p0), (1, .int p1), (2, .int v2), (3, .int v3)] []) (fun v2 v3 J lw h => h) v2 v3 J lw h)
def wp_X3_apart (p0 : Int32) (p1 : Int32) (Φ : Int32 → (Nat → Nat → Int32) → Int64 → Prop) (J : Nat → Nat → Int32) (lw : Int64) : Prop :=
wl_X3_apart_4 p0 p1 Φ 0 0 J lw
theorem wk_X3_apart {g : Gm} {d : TD} {t : Nat} (B : BdT g d prog_11_method_89_code 4 (some .int) 0 0) (p0 : Int32) (p1 : Int32) (Φ : Int32 → (Nat → Nat → Int32) → Int64 → Prop) (J : Nat → Nat → Int32) (lw : Int64) (hw : wp_X3_apart p0 p1 Φ J lw) : GJ g 4 (TP d t J lw (gs g).heap) 0 (TQ g d t (ansI Φ)) 0 [(0, .int p0), (1, .int p1)] [] := by
  unfold wp_X3_apart at hw
  have C := B.1
  have hW := B.2.1
  refine gj_iconst (v := 0) C dX3_apart_0 rfl ?_
  refine gj_istore_n (lc' := [(2, .int 0), (0, .int p0), (1, .int p1)]) C dX3_apart_1 (Nat.le_of_ble_eq_true rfl) rfl ?_
  refine gj_iconst (v := 0) C dX3_apart_2 rfl ?_
  refine gj_istore_n (lc' := [(3, .int 0), (2, .int 0), (0, .int p0), (1, .int p1)]) C dX3_apart_3 (Nat.le_of_ble_eq_true rfl) rfl ?_
  refine gj_sub (lc' := [(0, .int p0), (1, .int p1), (2, .int 0), (3, .int 0)]) [2, 3, 1, 0] rfl ?_
  exact wq_X3_apart_4 B _ _ _ _ _ _ _ hw

theorem met_X3_apart (l : Launch) {d : TD} {t : Nat} {J : Nat → Nat → Int32} {lw : Int64} {p0 : Int32} {p1 : Int32} {Φ : Int32 → (Nat → Nat → Int32) → Int64 → Prop} (hw : wp_X3_apart p0 p1 Φ J lw) : MetT l yX3_apart prog_11_method_89_code 4 (some .int) 0 0 [.int p0, .int p1] d t J lw (ansI Φ) :=
  mt_of (by decide +kernel) rfl (Nat.le_of_ble_eq_true rfl) (fun g _ B => wk_X3_apart B _ _ _ J lw hw)
theorem tc_X3_apart {g : Gm} {d : TD} {t : Nat} {cc : ByteArray} {nL : Nat} {ret : Option FieldType} {fr lo : Nat} (B : BdT g d cc nL ret fr lo) {J : Nat → Nat → Int32} {lw : Int64} {H0 : Heap} {Q : State → Prop} {pc : Nat} {lc : List (Nat × Value)} {rest : List Value} {p0 : Int32} {p1 : Int32} {Φ : Int32 → (Nat → Nat → Int32) → Int64 → Prop} (hw : wp_X3_apart p0 p1 Φ J lw) (hf : 1 ≤ fr) (hlo : 23 ≤ lo) (hrest : (rest.map fun v => v.category).sum ≤ 8) (dg : decode cc pc = .ok (.invokestatic 410, 3)) (k : ∀ (r : Int32) J' lw', Φ r J' lw' → GJ g nL (TP d t J' lw' H0) 0 Q (pc + 3) lc (.int r :: rest)) : GJ g nL (TP d t J lw H0) 0 Q pc lc (.int p1 :: .int p0 :: rest) :=
  gt_callS (n := 2) (As := [.int p0, .int p1]) B (met_X3_apart g.2.1 hw) (lw_S q1755 q1756 q97 q1757) ⟨by decide +kernel, by decide +kernel, by decide +kernel⟩ rfl hf hlo ⟨Nat.zero_le _, Nat.zero_le _⟩ rfl hrest dg (fun v J' lw' hp => by obtain ⟨r, rfl, hp⟩ := hp; exact k r J' lw' hp)
/-! spells(I)V -/
def wj_X3_spells_59 (p1 : Int32) (Φ : (Nat → Nat → Int32) → Int64 → Prop) (X7 : Int32 → (Nat → Nat → Int32) → Int64 → Prop) (v2 : Int32) (v3 : Int32) (J : Nat → Nat → Int32) (lw : Int64) : Prop :=
(if v3 = 0 then (∀ x9 : Int32, x9 = v2 + 1 → X7 x9 J lw) else (vp_in (J 0 62) (tln 61) ∧ (∀ J6 : Nat → Nat → Int32, J6 = u2 J 61 (Int32.toNatClampNeg (J 0 62)) v2 → (∀ J7 : Nat → Nat → Int32, J7 = u2 J6 0 62 ((J6 0 62) + 1) → (∀ x8 : Int32, x8 = v2 + 1 → X7 x8 J7 lw)))))
theorem wq_X3_spells_59 {g : Gm} {d : TD} {t : Nat} (B : BdT g d prog_11_method_90_code 5 none 1 23) (p1 : Int32) (Φ : (Nat → Nat → Int32) → Int64 → Prop) (X7 : Int32 → (Nat → Nat → Int32) → Int64 → Prop) (hX7 : ∀ v2 J lw, X7 v2 J lw → GJ g 5 (TP d t J lw (gs g).heap) 0 (TQ g d t (ansV Φ)) 7 [(0, rv (t + 1)), (1, .int p1), (2, .int v2)] []) (v2 : Int32) (v3 : Int32) (J : Nat → Nat → Int32) (lw : Int64) (hw : wj_X3_spells_59 p1 Φ X7 v2 v3 J lw) : GJ g 5 (TP d t J lw (gs g).heap) 0 (TQ g d t (ansV Φ)) 59 [(0, rv (t + 1)), (1, .int p1), (2, .int v2), (3, .int v3)] [] := by
  unfold wj_X3_spells_59 at hw
  have C := B.1
  have hW := B.2.1
  refine gj_iload_n C dX3_spells_59 3 rfl ?_
  refine gj_if_ne (tgt := 66) C dX3_spells_60 rfl (fun c4 => ?_) (fun c4 => ?_)
  · have hw := it_f hw c4
    refine gj_aload_n C dX3_spells_66 0 rfl ?_
    refine tg116 C hW dX3_spells_67 ?_
    refine gj_aload_n C dX3_spells_70 0 rfl ?_
    refine tg407 C hW dX3_spells_71 ?_
    refine gj_iload_n C dX3_spells_74 2 rfl ?_
    obtain ⟨h5, hw⟩ := hw
    refine gt_iast C hW (by decide) h5 dX3_spells_75 ?_
    refine gt_nmJ (fun J6 eJ6 => ?_)
    have hw := hw J6 eJ6
    refine gj_aload_n C dX3_spells_76 0 rfl ?_
    refine gj_dup C dX3_spells_77 (rv_cat _) ?_
    refine tg407 C hW dX3_spells_78 ?_
    refine gj_iconst (v := 1) C dX3_spells_81 rfl ?_
    refine gj_iadd C dX3_spells_82 ?_
    refine tp407 C hW dX3_spells_83 ?_
    refine gt_nmJ (fun J7 eJ7 => ?_)
    have hw := hw J7 eJ7
    obtain ⟨x8, ex8⟩ : ∃ x8 : Int32, x8 = v2 + 1 := ⟨_, rfl⟩
    have hw := hw x8 ex8
    refine gj_iinc (lc' := [(2, .int x8), (0, rv (t + 1)), (1, .int p1), (3, .int v3)]) (w := 1) (v := x8) C dX3_spells_86 2 rfl rfl ex8.symm (Nat.le_of_ble_eq_true rfl) rfl ?_
    refine gj_goto (tgt := 7) C dX3_spells_89 rfl ?_
    refine gj_sub (lc' := [(0, rv (t + 1)), (1, .int p1), (2, .int x8)]) [1, 2, 0] rfl ?_
    exact hX7 _ _ _ hw
  · have hw := it_t hw c4
    refine gj_goto (tgt := 86) C dX3_spells_63 rfl ?_
    obtain ⟨x9, ex9⟩ : ∃ x9 : Int32, x9 = v2 + 1 := ⟨_, rfl⟩
    have hw := hw x9 ex9
    refine gj_iinc (lc' := [(2, .int x9), (0, rv (t + 1)), (1, .int p1), (3, .int v3)]) (w := 1) (v := x9) C dX3_spells_86 2 rfl rfl ex9.symm (Nat.le_of_ble_eq_true rfl) rfl ?_
    refine gj_goto (tgt := 7) C dX3_spells_89 rfl ?_
    refine gj_sub (lc' := [(0, rv (t + 1)), (1, .int p1), (2, .int x9)]) [1, 2, 0] rfl ?_
    exact hX7 _ _ _ hw

def wf_X3_spells_19 (p1 : Int32) (Φ : (Nat → Nat → Int32) → Int64 → Prop) (X7 : Int32 → (Nat → Nat → Int32) → Int64 → Prop) (X19 : Int32 → Int32 → Int32 → (Nat → Nat → Int32) → Int64 → Prop) (v2 : Int32) (v3 : Int32) (v4 : Int32) (J : Nat → Nat → Int32) (lw : Int64) : Prop :=
(if (J 0 62) ≤ v4 then wj_X3_spells_59 p1 Φ X7 v2 v3 J lw else (if v3 = 0 then wj_X3_spells_59 p1 Φ X7 v2 v3 J lw else (vp_in v4 (tln 61) ∧ (wp_X3_apart (J 61 (Int32.toNatClampNeg v4)) v2 (fun r14 J12 l13 => (∀ x15 : Int32, x15 = (if r14 < p1 then 0 else 1) → (∀ x17 : Int32, x17 = v4 + 1 → X19 v2 x15 x17 J12 l13))) J lw))))
def wl_X3_spells_19 (p1 : Int32) (Φ : (Nat → Nat → Int32) → Int64 → Prop) (X7 : Int32 → (Nat → Nat → Int32) → Int64 → Prop) (v2 : Int32) (v3 : Int32) (v4 : Int32) (J : Nat → Nat → Int32) (lw : Int64) : Prop := ∀ X19 : Int32 → Int32 → Int32 → (Nat → Nat → Int32) → Int64 → Prop, (∀ v2 v3 v4 J lw, wf_X3_spells_19 p1 Φ X7 X19 v2 v3 v4 J lw → X19 v2 v3 v4 J lw) → X19 v2 v3 v4 J lw
theorem wk_X3_spells_19 {g : Gm} {d : TD} {t : Nat} (B : BdT g d prog_11_method_90_code 5 none 1 23) (p1 : Int32) (Φ : (Nat → Nat → Int32) → Int64 → Prop) (X7 : Int32 → (Nat → Nat → Int32) → Int64 → Prop) (X19 : Int32 → Int32 → Int32 → (Nat → Nat → Int32) → Int64 → Prop) (hX7 : ∀ v2 J lw, X7 v2 J lw → GJ g 5 (TP d t J lw (gs g).heap) 0 (TQ g d t (ansV Φ)) 7 [(0, rv (t + 1)), (1, .int p1), (2, .int v2)] []) (hX19 : ∀ v2 v3 v4 J lw, X19 v2 v3 v4 J lw → GJ g 5 (TP d t J lw (gs g).heap) 0 (TQ g d t (ansV Φ)) 19 [(0, rv (t + 1)), (1, .int p1), (2, .int v2), (3, .int v3), (4, .int v4)] []) (v2 : Int32) (v3 : Int32) (v4 : Int32) (J : Nat → Nat → Int32) (lw : Int64) (hw : wf_X3_spells_19 p1 Φ X7 X19 v2 v3 v4 J lw) : GJ g 5 (TP d t J lw (gs g).heap) 0 (TQ g d t (ansV Φ)) 19 [(0, rv (t + 1)), (1, .int p1), (2, .int v2), (3, .int v3), (4, .int v4)] [] := by
  unfold wf_X3_spells_19 at hw
  have C := B.1
  have hW := B.2.1
  refine gj_iload C dX3_spells_19 4 rfl ?_
  refine gj_aload_n C dX3_spells_21 0 rfl ?_
  refine tg407 C hW dX3_spells_22 ?_
  refine gj_icmp_ge (tgt := 59) C dX3_spells_25 rfl (fun c3 => ?_) (fun c3 => ?_)
  · have hw := it_t hw c3
    refine gj_sub (lc' := [(0, rv (t + 1)), (1, .int p1), (2, .int v2), (3, .int v3)]) [0, 1, 2, 3] rfl ?_
    exact wq_X3_spells_59 B _ _ _ hX7 _ _ _ _ hw
  · have hw := it_f hw c3
    refine gj_iload_n C dX3_spells_28 3 rfl ?_
    refine gj_if_eq (tgt := 59) C dX3_spells_29 rfl (fun c10 => ?_) (fun c10 => ?_)
    · have hw := it_t hw c10
      refine gj_sub (lc' := [(0, rv (t + 1)), (1, .int p1), (2, .int v2), (3, .int v3)]) [0, 1, 2, 3] rfl ?_
      exact wq_X3_spells_59 B _ _ _ hX7 _ _ _ _ hw
    · have hw := it_f hw c10
      refine gj_aload_n C dX3_spells_32 0 rfl ?_
      refine tg116 C hW dX3_spells_33 ?_
      refine gj_iload C dX3_spells_36 4 rfl ?_
      obtain ⟨h11, hw⟩ := hw
      refine gt_iald C hW (by decide) h11 dX3_spells_38 ?_
      refine gj_iload_n C dX3_spells_39 2 rfl ?_
      refine tc_X3_apart B hw (Nat.le_of_ble_eq_true rfl) (Nat.le_of_ble_eq_true rfl) (Nat.le_of_ble_eq_true rfl) dX3_spells_40 (fun r14 J12 l13 hw => ?_)
      refine gj_iload_n C dX3_spells_43 1 rfl ?_
      have key : ∀ x15 : Int32, x15 = (if r14 < p1 then 0 else 1) → GJ g 5 (TP d t J12 l13 (gs g).heap) 0 (TQ g d t (ansV Φ)) 52 [(0, rv (t + 1)), (1, .int p1), (2, .int v2), (3, .int v3), (4, .int v4)] [.int x15] → GJ g 5 (TP d t J12 l13 (gs g).heap) 0 (TQ g d t (ansV Φ)) 44 [(0, rv (t + 1)), (1, .int p1), (2, .int v2), (3, .int v3), (4, .int v4)] [.int p1, .int r14] := by
        intro x15 ex15 kk
        refine gj_icmp_lt (tgt := 51) C dX3_spells_44 rfl (fun c16 => ?_) (fun c16 => ?_)
        · refine gj_iconst (v := 0) C dX3_spells_51 rfl ?_
          rw [if_pos c16] at ex15
          subst ex15
          exact kk
        · refine gj_iconst (v := 1) C dX3_spells_47 rfl ?_
          refine gj_goto (tgt := 52) C dX3_spells_48 rfl ?_
          rw [if_neg c16] at ex15
          subst ex15
          exact kk
      obtain ⟨x15, ex15⟩ : ∃ x15 : Int32, x15 = (if r14 < p1 then 0 else 1) := ⟨_, rfl⟩
      have bx15 : x15 = 0 ∨ x15 = 1 := by rw [ex15]; (repeat' split) <;> simp
      refine key x15 ex15 ?_
      have hw := hw x15 ex15
      clear key
      refine gj_istore_n (lc' := [(3, .int x15), (0, rv (t + 1)), (1, .int p1), (2, .int v2), (4, .int v4)]) C dX3_spells_52 (Nat.le_of_ble_eq_true rfl) rfl ?_
      obtain ⟨x17, ex17⟩ : ∃ x17 : Int32, x17 = v4 + 1 := ⟨_, rfl⟩
      have hw := hw x17 ex17
      refine gj_iinc (lc' := [(4, .int x17), (3, .int x15), (0, rv (t + 1)), (1, .int p1), (2, .int v2)]) (w := 1) (v := x17) C dX3_spells_53 4 rfl rfl ex17.symm (Nat.le_of_ble_eq_true rfl) rfl ?_
      refine gj_goto (tgt := 19) C dX3_spells_56 rfl ?_
      refine gj_sub (lc' := [(0, rv (t + 1)), (1, .int p1), (2, .int v2), (3, .int x15), (4, .int x17)]) [2, 3, 4, 1, 0] rfl ?_
      exact hX19 _ _ _ _ _ hw

theorem wq_X3_spells_19 {g : Gm} {d : TD} {t : Nat} (B : BdT g d prog_11_method_90_code 5 none 1 23) (p1 : Int32) (Φ : (Nat → Nat → Int32) → Int64 → Prop) (X7 : Int32 → (Nat → Nat → Int32) → Int64 → Prop) (hX7 : ∀ v2 J lw, X7 v2 J lw → GJ g 5 (TP d t J lw (gs g).heap) 0 (TQ g d t (ansV Φ)) 7 [(0, rv (t + 1)), (1, .int p1), (2, .int v2)] []) (v2 : Int32) (v3 : Int32) (v4 : Int32) (J : Nat → Nat → Int32) (lw : Int64) (hw : wl_X3_spells_19 p1 Φ X7 v2 v3 v4 J lw) : GJ g 5 (TP d t J lw (gs g).heap) 0 (TQ g d t (ansV Φ)) 19 [(0, rv (t + 1)), (1, .int p1), (2, .int v2), (3, .int v3), (4, .int v4)] [] :=
  hw (fun v2 v3 v4 J lw => GJ g 5 (TP d t J lw (gs g).heap) 0 (TQ g d t (ansV Φ)) 19 [(0, rv (t + 1)), (1, .int p1), (2, .int v2), (3, .int v3), (4, .int v4)] []) (fun v2 v3 v4 J lw h => wk_X3_spells_19 B p1 Φ X7 (fun v2 v3 v4 J lw => GJ g 5 (TP d t J lw (gs g).heap) 0 (TQ g d t (ansV Φ)) 19 [(0, rv (t + 1)), (1, .int p1), (2, .int v2), (3, .int v3), (4, .int v4)] []) hX7 (fun v2 v3 v4 J lw h => h) v2 v3 v4 J lw h)
def wf_X3_spells_7 (p1 : Int32) (Φ : (Nat → Nat → Int32) → Int64 → Prop) (X7 : Int32 → (Nat → Nat → Int32) → Int64 → Prop) (v2 : Int32) (J : Nat → Nat → Int32) (lw : Int64) : Prop :=
(if 256 ≤ v2 then Φ J lw else wl_X3_spells_19 p1 Φ X7 v2 1 0 J lw)
def wl_X3_spells_7 (p1 : Int32) (Φ : (Nat → Nat → Int32) → Int64 → Prop) (v2 : Int32) (J : Nat → Nat → Int32) (lw : Int64) : Prop := ∀ X7 : Int32 → (Nat → Nat → Int32) → Int64 → Prop, (∀ v2 J lw, wf_X3_spells_7 p1 Φ X7 v2 J lw → X7 v2 J lw) → X7 v2 J lw
theorem wk_X3_spells_7 {g : Gm} {d : TD} {t : Nat} (B : BdT g d prog_11_method_90_code 5 none 1 23) (p1 : Int32) (Φ : (Nat → Nat → Int32) → Int64 → Prop) (X7 : Int32 → (Nat → Nat → Int32) → Int64 → Prop) (hX7 : ∀ v2 J lw, X7 v2 J lw → GJ g 5 (TP d t J lw (gs g).heap) 0 (TQ g d t (ansV Φ)) 7 [(0, rv (t + 1)), (1, .int p1), (2, .int v2)] []) (v2 : Int32) (J : Nat → Nat → Int32) (lw : Int64) (hw : wf_X3_spells_7 p1 Φ X7 v2 J lw) : GJ g 5 (TP d t J lw (gs g).heap) 0 (TQ g d t (ansV Φ)) 7 [(0, rv (t + 1)), (1, .int p1), (2, .int v2)] [] := by
  unfold wf_X3_spells_7 at hw
  have C := B.1
  have hW := B.2.1
  refine gj_iload_n C dX3_spells_7 2 rfl ?_
  refine gj_sipush (v := 256) C dX3_spells_8 rfl ?_
  refine gj_icmp_ge (tgt := 92) C dX3_spells_11 rfl (fun c2 => ?_) (fun c2 => ?_)
  · have hw := it_t hw c2
    exact gt_vret B hw dX3_spells_92
  · have hw := it_f hw c2
    refine gj_iconst (v := 1) C dX3_spells_14 rfl ?_
    refine gj_istore_n (lc' := [(3, .int 1), (0, rv (t + 1)), (1, .int p1), (2, .int v2)]) C dX3_spells_15 (Nat.le_of_ble_eq_true rfl) rfl ?_
    refine gj_iconst (v := 0) C dX3_spells_16 rfl ?_
    refine gj_istore (lc' := [(4, .int 0), (3, .int 1), (0, rv (t + 1)), (1, .int p1), (2, .int v2)]) C dX3_spells_17 (Nat.le_of_ble_eq_true rfl) rfl ?_
    refine gj_sub (lc' := [(0, rv (t + 1)), (1, .int p1), (2, .int v2), (3, .int 1), (4, .int 0)]) [2, 3, 4, 1, 0] rfl ?_
    exact wq_X3_spells_19 B _ _ _ hX7 _ _ _ _ _ hw

theorem wq_X3_spells_7 {g : Gm} {d : TD} {t : Nat} (B : BdT g d prog_11_method_90_code 5 none 1 23) (p1 : Int32) (Φ : (Nat → Nat → Int32) → Int64 → Prop) (v2 : Int32) (J : Nat → Nat → Int32) (lw : Int64) (hw : wl_X3_spells_7 p1 Φ v2 J lw) : GJ g 5 (TP d t J lw (gs g).heap) 0 (TQ g d t (ansV Φ)) 7 [(0, rv (t + 1)), (1, .int p1), (2, .int v2)] [] :=
  hw (fun v2 J lw => GJ g 5 (TP d t J lw (gs g).heap) 0 (TQ g d t (ansV Φ)) 7 [(0, rv (t + 1)), (1, .int p1), (2, .int v2)] []) (fun v2 J lw h => wk_X3_spells_7 B p1 Φ (fun v2 J lw => GJ g 5 (TP d t J lw (gs g).heap) 0 (TQ g d t (ansV Φ)) 7 [(0, rv (t + 1)), (1, .int p1), (2, .int v2)] []) (fun v2 J lw h => h) v2 J lw h)
def wp_X3_spells (p1 : Int32) (Φ : (Nat → Nat → Int32) → Int64 → Prop) (J : Nat → Nat → Int32) (lw : Int64) : Prop :=
(∀ J1 : Nat → Nat → Int32, J1 = u2 J 0 62 0 → wl_X3_spells_7 p1 Φ 0 J1 lw)
theorem wk_X3_spells {g : Gm} {d : TD} {t : Nat} (B : BdT g d prog_11_method_90_code 5 none 1 23) (p1 : Int32) (Φ : (Nat → Nat → Int32) → Int64 → Prop) (J : Nat → Nat → Int32) (lw : Int64) (hw : wp_X3_spells p1 Φ J lw) : GJ g 5 (TP d t J lw (gs g).heap) 0 (TQ g d t (ansV Φ)) 0 [(0, rv (t + 1)), (1, .int p1)] [] := by
  unfold wp_X3_spells at hw
  have C := B.1
  have hW := B.2.1
  refine gj_aload_n C dX3_spells_0 0 rfl ?_
  refine gj_iconst (v := 0) C dX3_spells_1 rfl ?_
  refine tp407 C hW dX3_spells_2 ?_
  refine gt_nmJ (fun J1 eJ1 => ?_)
  have hw := hw J1 eJ1
  refine gj_iconst (v := 0) C dX3_spells_5 rfl ?_
  refine gj_istore_n (lc' := [(2, .int 0), (0, rv (t + 1)), (1, .int p1)]) C dX3_spells_6 (Nat.le_of_ble_eq_true rfl) rfl ?_
  refine gj_sub (lc' := [(0, rv (t + 1)), (1, .int p1), (2, .int 0)]) [1, 2, 0] rfl ?_
  exact wq_X3_spells_7 B _ _ _ _ _ hw

theorem met_X3_spells (l : Launch) {d : TD} {t : Nat} {J : Nat → Nat → Int32} {lw : Int64} {p1 : Int32} {Φ : (Nat → Nat → Int32) → Int64 → Prop} (hw : wp_X3_spells p1 Φ J lw) : MetT l yX3_spells prog_11_method_90_code 5 none 1 23 [.ref t, .int p1] d t J lw (ansV Φ) :=
  mt_of (by decide +kernel) rfl (Nat.le_of_ble_eq_true rfl) (fun g _ B => wk_X3_spells B _ _ J lw hw)
theorem tc_X3_spells {g : Gm} {d : TD} {t : Nat} {cc : ByteArray} {nL : Nat} {ret : Option FieldType} {fr lo : Nat} (B : BdT g d cc nL ret fr lo) {J : Nat → Nat → Int32} {lw : Int64} {H0 : Heap} {Q : State → Prop} {pc : Nat} {lc : List (Nat × Value)} {rest : List Value} {p1 : Int32} {Φ : (Nat → Nat → Int32) → Int64 → Prop} (hw : wp_X3_spells p1 Φ J lw) (hf : 2 ≤ fr) (hlo : 47 ≤ lo) (hrest : (rest.map fun v => v.category).sum ≤ 8) (dg : decode cc pc = .ok (.invokevirtual 416, 3)) (k : ∀ J' lw', Φ J' lw' → GJ g nL (TP d t J' lw' H0) 0 Q (pc + 3) lc (rest)) : GJ g nL (TP d t J lw H0) 0 Q pc lc (.int p1 :: rv (t + 1) :: rest) :=
  gt_callV (n := 1) (As := [.int p1]) B (met_X3_spells g.2.1 hw) (lw_V q1751 q1753 qs90 q97 q1754) ⟨rfl, by decide +kernel, by decide +kernel, by decide +kernel⟩ rfl hf hlo ⟨Nat.zero_le _, Nat.zero_le _⟩ rfl hrest dg (fun v J' lw' hp => by obtain ⟨rfl, hp⟩ := hp; exact k J' lw' hp)
/-! kinds(II)I -/
def wf_X3_kinds_33 (p1 : Int32) (p2 : Int32) (Φ : Int32 → (Nat → Nat → Int32) → Int64 → Prop) (X33 : Int32 → (Nat → Nat → Int32) → Int64 → Prop) (v3 : Int32) (J : Nat → Nat → Int32) (lw : Int64) : Prop :=
(vp_in (p1 - 1) (tln 61) ∧ (if (J 61 (Int32.toNatClampNeg (p1 - 1))) < ((1 : Int32) <<< (v3 &&& 31)) then Φ v3 J lw else (∀ x12 : Int32, x12 = v3 + 1 → X33 x12 J lw)))
def wl_X3_kinds_33 (p1 : Int32) (p2 : Int32) (Φ : Int32 → (Nat → Nat → Int32) → Int64 → Prop) (v3 : Int32) (J : Nat → Nat → Int32) (lw : Int64) : Prop := ∀ X33 : Int32 → (Nat → Nat → Int32) → Int64 → Prop, (∀ v3 J lw, wf_X3_kinds_33 p1 p2 Φ X33 v3 J lw → X33 v3 J lw) → X33 v3 J lw
theorem wk_X3_kinds_33 {g : Gm} {d : TD} {t : Nat} (B : BdT g d prog_11_method_92_code 4 (some .int) 2 47) (p1 : Int32) (p2 : Int32) (Φ : Int32 → (Nat → Nat → Int32) → Int64 → Prop) (X33 : Int32 → (Nat → Nat → Int32) → Int64 → Prop) (hX33 : ∀ v3 J lw, X33 v3 J lw → GJ g 4 (TP d t J lw (gs g).heap) 0 (TQ g d t (ansI Φ)) 33 [(0, rv (t + 1)), (1, .int p1), (3, .int v3)] []) (v3 : Int32) (J : Nat → Nat → Int32) (lw : Int64) (hw : wf_X3_kinds_33 p1 p2 Φ X33 v3 J lw) : GJ g 4 (TP d t J lw (gs g).heap) 0 (TQ g d t (ansI Φ)) 33 [(0, rv (t + 1)), (1, .int p1), (3, .int v3)] [] := by
  unfold wf_X3_kinds_33 at hw
  have C := B.1
  have hW := B.2.1
  refine gj_aload_n C dX3_kinds_33 0 rfl ?_
  refine tg116 C hW dX3_kinds_34 ?_
  refine gj_iload_n C dX3_kinds_37 1 rfl ?_
  refine gj_iconst (v := 1) C dX3_kinds_38 rfl ?_
  refine gj_isub C dX3_kinds_39 ?_
  obtain ⟨h10, hw⟩ := hw
  refine gt_iald C hW (by decide) h10 dX3_kinds_40 ?_
  refine gj_iconst (v := 1) C dX3_kinds_41 rfl ?_
  refine gj_iload_n C dX3_kinds_42 2 rfl ?_
  refine gj_ishl C dX3_kinds_43 ?_
  refine gj_icmp_lt (tgt := 53) C dX3_kinds_44 rfl (fun c11 => ?_) (fun c11 => ?_)
  · have hw := it_t hw c11
    refine gj_iload_n C dX3_kinds_53 2 rfl ?_
    exact gt_iret B hw dX3_kinds_54
  · have hw := it_f hw c11
    obtain ⟨x12, ex12⟩ : ∃ x12 : Int32, x12 = v3 + 1 := ⟨_, rfl⟩
    have hw := hw x12 ex12
    refine gj_iinc (lc' := [(3, .int x12), (0, rv (t + 1)), (1, .int p1)]) (w := 1) (v := x12) C dX3_kinds_47 2 rfl rfl ex12.symm (Nat.le_of_ble_eq_true rfl) rfl ?_
    refine gj_goto (tgt := 33) C dX3_kinds_50 rfl ?_
    refine gj_sub (lc' := [(0, rv (t + 1)), (1, .int p1), (3, .int x12)]) [1, 2, 0] rfl ?_
    exact hX33 _ _ _ hw

theorem wq_X3_kinds_33 {g : Gm} {d : TD} {t : Nat} (B : BdT g d prog_11_method_92_code 4 (some .int) 2 47) (p1 : Int32) (p2 : Int32) (Φ : Int32 → (Nat → Nat → Int32) → Int64 → Prop) (v3 : Int32) (J : Nat → Nat → Int32) (lw : Int64) (hw : wl_X3_kinds_33 p1 p2 Φ v3 J lw) : GJ g 4 (TP d t J lw (gs g).heap) 0 (TQ g d t (ansI Φ)) 33 [(0, rv (t + 1)), (1, .int p1), (3, .int v3)] [] :=
  hw (fun v3 J lw => GJ g 4 (TP d t J lw (gs g).heap) 0 (TQ g d t (ansI Φ)) 33 [(0, rv (t + 1)), (1, .int p1), (3, .int v3)] []) (fun v3 J lw h => wk_X3_kinds_33 B p1 p2 Φ (fun v3 J lw => GJ g 4 (TP d t J lw (gs g).heap) 0 (TQ g d t (ansI Φ)) 33 [(0, rv (t + 1)), (1, .int p1), (3, .int v3)] []) (fun v3 J lw h => h) v3 J lw h)
def wp_X3_kinds (p1 : Int32) (p2 : Int32) (Φ : Int32 → (Nat → Nat → Int32) → Int64 → Prop) (J : Nat → Nat → Int32) (lw : Int64) : Prop :=
(∀ J1 : Nat → Nat → Int32, J1 = u2 J 0 0 0 → (wp_X3_isCode p1 p2 (fun r4 J2 l3 => (if r4 = 0 then Φ 0 J2 l3 else (wp_X3_spells p2 (fun J6 l7 => (if p1 ≤ (J6 0 62) then wl_X3_kinds_33 p1 p2 Φ 0 J6 l7 else Φ (-1) J6 l7)) J2 l3))) J1 lw))
theorem wk_X3_kinds {g : Gm} {d : TD} {t : Nat} (B : BdT g d prog_11_method_92_code 4 (some .int) 2 47) (p1 : Int32) (p2 : Int32) (Φ : Int32 → (Nat → Nat → Int32) → Int64 → Prop) (J : Nat → Nat → Int32) (lw : Int64) (hw : wp_X3_kinds p1 p2 Φ J lw) : GJ g 4 (TP d t J lw (gs g).heap) 0 (TQ g d t (ansI Φ)) 0 [(0, rv (t + 1)), (1, .int p1), (2, .int p2)] [] := by
  unfold wp_X3_kinds at hw
  have C := B.1
  have hW := B.2.1
  refine gj_aload_n C dX3_kinds_0 0 rfl ?_
  refine gj_iconst (v := 0) C dX3_kinds_1 rfl ?_
  refine tp134 C hW dX3_kinds_2 ?_
  refine gt_nmJ (fun J1 eJ1 => ?_)
  have hw := hw J1 eJ1
  refine gj_aload_n C dX3_kinds_5 0 rfl ?_
  refine gj_iload_n C dX3_kinds_6 1 rfl ?_
  refine gj_iload_n C dX3_kinds_7 2 rfl ?_
  refine tc_X3_isCode B hw (Nat.le_of_ble_eq_true rfl) (Nat.le_of_ble_eq_true rfl) (Nat.le_of_ble_eq_true rfl) dX3_kinds_8 (fun r4 J2 l3 br4 hw => ?_)
  refine gj_if_ne (tgt := 16) C dX3_kinds_11 rfl (fun c5 => ?_) (fun c5 => ?_)
  · have hw := it_f hw c5
    refine gj_aload_n C dX3_kinds_16 0 rfl ?_
    refine gj_iload_n C dX3_kinds_17 2 rfl ?_
    refine tc_X3_spells B hw (Nat.le_of_ble_eq_true rfl) (Nat.le_of_ble_eq_true rfl) (Nat.le_of_ble_eq_true rfl) dX3_kinds_18 (fun J6 l7 hw => ?_)
    refine gj_aload_n C dX3_kinds_21 0 rfl ?_
    refine tg407 C hW dX3_kinds_22 ?_
    refine gj_iload_n C dX3_kinds_25 1 rfl ?_
    refine gj_icmp_ge (tgt := 31) C dX3_kinds_26 rfl (fun c9 => ?_) (fun c9 => ?_)
    · have hw := it_t hw c9
      refine gj_iconst (v := 0) C dX3_kinds_31 rfl ?_
      refine gj_istore_n (lc' := [(3, .int 0), (0, rv (t + 1)), (1, .int p1), (2, .int p2)]) C dX3_kinds_32 (Nat.le_of_ble_eq_true rfl) rfl ?_
      refine gj_sub (lc' := [(0, rv (t + 1)), (1, .int p1), (3, .int 0)]) [1, 2, 0] rfl ?_
      exact wq_X3_kinds_33 B _ _ _ _ _ _ hw
    · have hw := it_f hw c9
      refine gj_iconst (v := (-1)) C dX3_kinds_29 rfl ?_
      exact gt_iret B hw dX3_kinds_30
  · have hw := it_t hw c5
    refine gj_iconst (v := 0) C dX3_kinds_14 rfl ?_
    exact gt_iret B hw dX3_kinds_15

theorem met_X3_kinds (l : Launch) {d : TD} {t : Nat} {J : Nat → Nat → Int32} {lw : Int64} {p1 : Int32} {p2 : Int32} {Φ : Int32 → (Nat → Nat → Int32) → Int64 → Prop} (hw : wp_X3_kinds p1 p2 Φ J lw) : MetT l yX3_kinds prog_11_method_92_code 4 (some .int) 2 47 [.ref t, .int p1, .int p2] d t J lw (ansI Φ) :=
  mt_of (by decide +kernel) rfl (Nat.le_of_ble_eq_true rfl) (fun g _ B => wk_X3_kinds B _ _ _ J lw hw)
/-! word(II)I -/
def wp_X3_word (p1 : Int32) (p2 : Int32) (Φ : Int32 → (Nat → Nat → Int32) → Int64 → Prop) (J : Nat → Nat → Int32) (lw : Int64) : Prop :=
(∀ J1 : Nat → Nat → Int32, J1 = u2 J 0 0 0 → (wp_X3_within p1 0 39 (fun r4 J2 l3 => (wp_X3_right r4 1 (fun r7 J5 l6 => (if r7 = 0 then Φ 0 J5 l6 else (wp_X3_within p2 1 3 (fun r11 J9 l10 => (wp_X3_right r11 2 (fun r14 J12 l13 => (if r14 = 0 then Φ 0 J12 l13 else (wp_X3_spells p2 (fun J16 l17 => (if (J16 0 62) ≤ p1 then Φ (-1) J16 l17 else (vp_in p1 (tln 61) ∧ Φ (J16 61 (Int32.toNatClampNeg p1)) J16 l17))) J12 l13))) J9 l10)) J5 l6))) J2 l3)) J1 lw))
theorem wk_X3_word {g : Gm} {d : TD} {t : Nat} (B : BdT g d prog_11_method_93_code 3 (some .int) 2 47) (p1 : Int32) (p2 : Int32) (Φ : Int32 → (Nat → Nat → Int32) → Int64 → Prop) (J : Nat → Nat → Int32) (lw : Int64) (hw : wp_X3_word p1 p2 Φ J lw) : GJ g 3 (TP d t J lw (gs g).heap) 0 (TQ g d t (ansI Φ)) 0 [(0, rv (t + 1)), (1, .int p1), (2, .int p2)] [] := by
  unfold wp_X3_word at hw
  have C := B.1
  have hW := B.2.1
  refine gj_aload_n C dX3_word_0 0 rfl ?_
  refine gj_iconst (v := 0) C dX3_word_1 rfl ?_
  refine tp134 C hW dX3_word_2 ?_
  refine gt_nmJ (fun J1 eJ1 => ?_)
  have hw := hw J1 eJ1
  refine gj_aload_n C dX3_word_5 0 rfl ?_
  refine gj_iload_n C dX3_word_6 1 rfl ?_
  refine gj_iconst (v := 0) C dX3_word_7 rfl ?_
  refine gj_bipush (v := 39) C dX3_word_8 rfl ?_
  refine tc_X3_within B hw (Nat.le_of_ble_eq_true rfl) (Nat.le_of_ble_eq_true rfl) (Nat.le_of_ble_eq_true rfl) dX3_word_10 (fun r4 J2 l3 br4 hw => ?_)
  refine gj_iconst (v := 1) C dX3_word_13 rfl ?_
  refine tc_X3_right B hw (Nat.le_of_ble_eq_true rfl) (Nat.le_of_ble_eq_true rfl) (Nat.le_of_ble_eq_true rfl) dX3_word_14 (fun r7 J5 l6 br7 hw => ?_)
  refine gj_if_eq (tgt := 34) C dX3_word_17 rfl (fun c8 => ?_) (fun c8 => ?_)
  · have hw := it_t hw c8
    refine gj_iconst (v := 0) C dX3_word_34 rfl ?_
    exact gt_iret B hw dX3_word_35
  · have hw := it_f hw c8
    refine gj_aload_n C dX3_word_20 0 rfl ?_
    refine gj_iload_n C dX3_word_21 2 rfl ?_
    refine gj_iconst (v := 1) C dX3_word_22 rfl ?_
    refine gj_iconst (v := 3) C dX3_word_23 rfl ?_
    refine tc_X3_within B hw (Nat.le_of_ble_eq_true rfl) (Nat.le_of_ble_eq_true rfl) (Nat.le_of_ble_eq_true rfl) dX3_word_24 (fun r11 J9 l10 br11 hw => ?_)
    refine gj_iconst (v := 2) C dX3_word_27 rfl ?_
    refine tc_X3_right B hw (Nat.le_of_ble_eq_true rfl) (Nat.le_of_ble_eq_true rfl) (Nat.le_of_ble_eq_true rfl) dX3_word_28 (fun r14 J12 l13 br14 hw => ?_)
    refine gj_if_ne (tgt := 36) C dX3_word_31 rfl (fun c15 => ?_) (fun c15 => ?_)
    · have hw := it_f hw c15
      refine gj_aload_n C dX3_word_36 0 rfl ?_
      refine gj_iload_n C dX3_word_37 2 rfl ?_
      refine tc_X3_spells B hw (Nat.le_of_ble_eq_true rfl) (Nat.le_of_ble_eq_true rfl) (Nat.le_of_ble_eq_true rfl) dX3_word_38 (fun J16 l17 hw => ?_)
      refine gj_iload_n C dX3_word_41 1 rfl ?_
      refine gj_aload_n C dX3_word_42 0 rfl ?_
      refine tg407 C hW dX3_word_43 ?_
      refine gj_icmp_ge (tgt := 58) C dX3_word_46 rfl (fun c19 => ?_) (fun c19 => ?_)
      · have hw := it_t hw c19
        refine gj_iconst (v := (-1)) C dX3_word_58 rfl ?_
        exact gt_iret B hw dX3_word_59
      · have hw := it_f hw c19
        refine gj_aload_n C dX3_word_49 0 rfl ?_
        refine tg116 C hW dX3_word_50 ?_
        refine gj_iload_n C dX3_word_53 1 rfl ?_
        obtain ⟨h20, hw⟩ := hw
        refine gt_iald C hW (by decide) h20 dX3_word_54 ?_
        refine gj_goto (tgt := 59) C dX3_word_55 rfl ?_
        exact gt_iret B hw dX3_word_59
    · have hw := it_t hw c15
      refine gj_iconst (v := 0) C dX3_word_34 rfl ?_
      exact gt_iret B hw dX3_word_35

theorem met_X3_word (l : Launch) {d : TD} {t : Nat} {J : Nat → Nat → Int32} {lw : Int64} {p1 : Int32} {p2 : Int32} {Φ : Int32 → (Nat → Nat → Int32) → Int64 → Prop} (hw : wp_X3_word p1 p2 Φ J lw) : MetT l yX3_word prog_11_method_93_code 3 (some .int) 2 47 [.ref t, .int p1, .int p2] d t J lw (ansI Φ) :=
  mt_of (by decide +kernel) rfl (Nat.le_of_ble_eq_true rfl) (fun g _ B => wk_X3_word B _ _ _ J lw hw)
/-! mend(III)I -/
def wf_X3_mend_66 (p1 : Int32) (p2 : Int32) (p3 : Int32) (Φ : Int32 → (Nat → Nat → Int32) → Int64 → Prop) (X66 : Int32 → Int32 → (Nat → Nat → Int32) → Int64 → Prop) (v4 : Int32) (v5 : Int32) (J : Nat → Nat → Int32) (lw : Int64) : Prop :=
(if p2 ≤ v5 then (vp_in v4 (tln 61) ∧ (wp_X3_apart (J 61 (Int32.toNatClampNeg v4)) p1 (fun r26 J24 l25 => (∀ x27 : Int32, x27 = (if (p3 - 1) < (2 * r26) then (-1) else v4) → Φ x27 J24 l25)) J lw)) else (vp_in v5 (tln 61) ∧ (wp_X3_apart (J 61 (Int32.toNatClampNeg v5)) p1 (fun r32 J30 l31 => (vp_in v4 (tln 61) ∧ (wp_X3_apart (J30 61 (Int32.toNatClampNeg v4)) p1 (fun r36 J34 l35 => (if r36 ≤ r32 then (∀ x38 : Int32, x38 = v5 + 1 → X66 v4 x38 J34 l35) else (∀ x39 : Int32, x39 = v5 + 1 → X66 v5 x39 J34 l35))) J30 l31))) J lw)))
def wl_X3_mend_66 (p1 : Int32) (p2 : Int32) (p3 : Int32) (Φ : Int32 → (Nat → Nat → Int32) → Int64 → Prop) (v4 : Int32) (v5 : Int32) (J : Nat → Nat → Int32) (lw : Int64) : Prop := ∀ X66 : Int32 → Int32 → (Nat → Nat → Int32) → Int64 → Prop, (∀ v4 v5 J lw, wf_X3_mend_66 p1 p2 p3 Φ X66 v4 v5 J lw → X66 v4 v5 J lw) → X66 v4 v5 J lw
theorem wk_X3_mend_66 {g : Gm} {d : TD} {t : Nat} (B : BdT g d prog_11_method_94_code 6 (some .int) 2 47) (p1 : Int32) (p2 : Int32) (p3 : Int32) (Φ : Int32 → (Nat → Nat → Int32) → Int64 → Prop) (X66 : Int32 → Int32 → (Nat → Nat → Int32) → Int64 → Prop) (hX66 : ∀ v4 v5 J lw, X66 v4 v5 J lw → GJ g 6 (TP d t J lw (gs g).heap) 0 (TQ g d t (ansI Φ)) 66 [(0, rv (t + 1)), (1, .int p1), (2, .int p2), (3, .int p3), (4, .int v4), (5, .int v5)] []) (v4 : Int32) (v5 : Int32) (J : Nat → Nat → Int32) (lw : Int64) (hw : wf_X3_mend_66 p1 p2 p3 Φ X66 v4 v5 J lw) : GJ g 6 (TP d t J lw (gs g).heap) 0 (TQ g d t (ansI Φ)) 66 [(0, rv (t + 1)), (1, .int p1), (2, .int p2), (3, .int p3), (4, .int v4), (5, .int v5)] [] := by
  unfold wf_X3_mend_66 at hw
  have C := B.1
  have hW := B.2.1
  refine gj_iload C dX3_mend_66 5 rfl ?_
  refine gj_iload_n C dX3_mend_68 2 rfl ?_
  refine gj_icmp_ge (tgt := 107) C dX3_mend_69 rfl (fun c22 => ?_) (fun c22 => ?_)
  · have hw := it_t hw c22
    refine gj_iconst (v := 2) C dX3_mend_107 rfl ?_
    refine gj_aload_n C dX3_mend_108 0 rfl ?_
    refine tg116 C hW dX3_mend_109 ?_
    refine gj_iload C dX3_mend_112 4 rfl ?_
    obtain ⟨h23, hw⟩ := hw
    refine gt_iald C hW (by decide) h23 dX3_mend_114 ?_
    refine gj_iload_n C dX3_mend_115 1 rfl ?_
    refine tc_X3_apart B hw (Nat.le_of_ble_eq_true rfl) (Nat.le_of_ble_eq_true rfl) (Nat.le_of_ble_eq_true rfl) dX3_mend_116 (fun r26 J24 l25 hw => ?_)
    refine gj_imul C dX3_mend_119 ?_
    refine gj_iload_n C dX3_mend_120 3 rfl ?_
    refine gj_iconst (v := 1) C dX3_mend_121 rfl ?_
    refine gj_isub C dX3_mend_122 ?_
    have key : ∀ x27 : Int32, x27 = (if (p3 - 1) < (2 * r26) then (-1) else v4) → GJ g 6 (TP d t J24 l25 (gs g).heap) 0 (TQ g d t (ansI Φ)) 132 [(0, rv (t + 1)), (1, .int p1), (2, .int p2), (3, .int p3), (4, .int v4), (5, .int v5)] [.int x27] → GJ g 6 (TP d t J24 l25 (gs g).heap) 0 (TQ g d t (ansI Φ)) 123 [(0, rv (t + 1)), (1, .int p1), (2, .int p2), (3, .int p3), (4, .int v4), (5, .int v5)] [.int (p3 - 1), .int (2 * r26)] := by
      intro x27 ex27 kk
      refine gj_icmp_gt (tgt := 131) C dX3_mend_123 rfl (fun c28 => ?_) (fun c28 => ?_)
      · refine gj_iconst (v := (-1)) C dX3_mend_131 rfl ?_
        rw [if_pos c28] at ex27
        subst ex27
        exact kk
      · refine gj_iload C dX3_mend_126 4 rfl ?_
        refine gj_goto (tgt := 132) C dX3_mend_128 rfl ?_
        rw [if_neg c28] at ex27
        subst ex27
        exact kk
    obtain ⟨x27, ex27⟩ : ∃ x27 : Int32, x27 = (if (p3 - 1) < (2 * r26) then (-1) else v4) := ⟨_, rfl⟩
    refine key x27 ex27 ?_
    have hw := hw x27 ex27
    clear key
    exact gt_iret B hw dX3_mend_132
  · have hw := it_f hw c22
    refine gj_aload_n C dX3_mend_72 0 rfl ?_
    refine tg116 C hW dX3_mend_73 ?_
    refine gj_iload C dX3_mend_76 5 rfl ?_
    obtain ⟨h29, hw⟩ := hw
    refine gt_iald C hW (by decide) h29 dX3_mend_78 ?_
    refine gj_iload_n C dX3_mend_79 1 rfl ?_
    refine tc_X3_apart B hw (Nat.le_of_ble_eq_true rfl) (Nat.le_of_ble_eq_true rfl) (Nat.le_of_ble_eq_true rfl) dX3_mend_80 (fun r32 J30 l31 hw => ?_)
    refine gj_aload_n C dX3_mend_83 0 rfl ?_
    refine tg116 C hW dX3_mend_84 ?_
    refine gj_iload C dX3_mend_87 4 rfl ?_
    obtain ⟨h33, hw⟩ := hw
    refine gt_iald C hW (by decide) h33 dX3_mend_89 ?_
    refine gj_iload_n C dX3_mend_90 1 rfl ?_
    refine tc_X3_apart B hw (Nat.le_of_ble_eq_true rfl) (Nat.le_of_ble_eq_true rfl) (Nat.le_of_ble_eq_true rfl) dX3_mend_91 (fun r36 J34 l35 hw => ?_)
    refine gj_icmp_ge (tgt := 101) C dX3_mend_94 rfl (fun c37 => ?_) (fun c37 => ?_)
    · have hw := it_t hw c37
      obtain ⟨x38, ex38⟩ : ∃ x38 : Int32, x38 = v5 + 1 := ⟨_, rfl⟩
      have hw := hw x38 ex38
      refine gj_iinc (lc' := [(5, .int x38), (0, rv (t + 1)), (1, .int p1), (2, .int p2), (3, .int p3), (4, .int v4)]) (w := 1) (v := x38) C dX3_mend_101 5 rfl rfl ex38.symm (Nat.le_of_ble_eq_true rfl) rfl ?_
      refine gj_goto (tgt := 66) C dX3_mend_104 rfl ?_
      refine gj_sub (lc' := [(0, rv (t + 1)), (1, .int p1), (2, .int p2), (3, .int p3), (4, .int v4), (5, .int x38)]) [1, 2, 3, 4, 5, 0] rfl ?_
      exact hX66 _ _ _ _ hw
    · have hw := it_f hw c37
      refine gj_iload C dX3_mend_97 5 rfl ?_
      refine gj_istore (lc' := [(4, .int v5), (0, rv (t + 1)), (1, .int p1), (2, .int p2), (3, .int p3), (5, .int v5)]) C dX3_mend_99 (Nat.le_of_ble_eq_true rfl) rfl ?_
      obtain ⟨x39, ex39⟩ : ∃ x39 : Int32, x39 = v5 + 1 := ⟨_, rfl⟩
      have hw := hw x39 ex39
      refine gj_iinc (lc' := [(5, .int x39), (4, .int v5), (0, rv (t + 1)), (1, .int p1), (2, .int p2), (3, .int p3)]) (w := 1) (v := x39) C dX3_mend_101 5 rfl rfl ex39.symm (Nat.le_of_ble_eq_true rfl) rfl ?_
      refine gj_goto (tgt := 66) C dX3_mend_104 rfl ?_
      refine gj_sub (lc' := [(0, rv (t + 1)), (1, .int p1), (2, .int p2), (3, .int p3), (4, .int v5), (5, .int x39)]) [2, 3, 4, 5, 1, 0] rfl ?_
      exact hX66 _ _ _ _ hw

theorem wq_X3_mend_66 {g : Gm} {d : TD} {t : Nat} (B : BdT g d prog_11_method_94_code 6 (some .int) 2 47) (p1 : Int32) (p2 : Int32) (p3 : Int32) (Φ : Int32 → (Nat → Nat → Int32) → Int64 → Prop) (v4 : Int32) (v5 : Int32) (J : Nat → Nat → Int32) (lw : Int64) (hw : wl_X3_mend_66 p1 p2 p3 Φ v4 v5 J lw) : GJ g 6 (TP d t J lw (gs g).heap) 0 (TQ g d t (ansI Φ)) 66 [(0, rv (t + 1)), (1, .int p1), (2, .int p2), (3, .int p3), (4, .int v4), (5, .int v5)] [] :=
  hw (fun v4 v5 J lw => GJ g 6 (TP d t J lw (gs g).heap) 0 (TQ g d t (ansI Φ)) 66 [(0, rv (t + 1)), (1, .int p1), (2, .int p2), (3, .int p3), (4, .int v4), (5, .int v5)] []) (fun v4 v5 J lw h => wk_X3_mend_66 B p1 p2 p3 Φ (fun v4 v5 J lw => GJ g 6 (TP d t J lw (gs g).heap) 0 (TQ g d t (ansI Φ)) 66 [(0, rv (t + 1)), (1, .int p1), (2, .int p2), (3, .int p3), (4, .int v4), (5, .int v5)] []) (fun v4 v5 J lw h => h) v4 v5 J lw h)
def wp_X3_mend (p1 : Int32) (p2 : Int32) (p3 : Int32) (Φ : Int32 → (Nat → Nat → Int32) → Int64 → Prop) (J : Nat → Nat → Int32) (lw : Int64) : Prop :=
(∀ J1 : Nat → Nat → Int32, J1 = u2 J 0 0 0 → (wp_X3_isCode p2 p3 (fun r4 J2 l3 => (if r4 = 0 then Φ 0 J2 l3 else (wp_X3_within p1 0 255 (fun r8 J6 l7 => (wp_X3_right r8 1 (fun r11 J9 l10 => (if r11 = 0 then Φ 0 J9 l10 else (wp_X3_spells p3 (fun J13 l14 => (∀ x16 : Int32, x16 = (if (J13 0 62) < p2 then 0 else 1) → (wp_X3_right x16 1 (fun r20 J18 l19 => (if r20 = 0 then Φ 0 J18 l19 else wl_X3_mend_66 p1 p2 p3 Φ 0 1 J18 l19)) J13 l14))) J9 l10))) J6 l7)) J2 l3))) J1 lw))
theorem wk_X3_mend {g : Gm} {d : TD} {t : Nat} (B : BdT g d prog_11_method_94_code 6 (some .int) 2 47) (p1 : Int32) (p2 : Int32) (p3 : Int32) (Φ : Int32 → (Nat → Nat → Int32) → Int64 → Prop) (J : Nat → Nat → Int32) (lw : Int64) (hw : wp_X3_mend p1 p2 p3 Φ J lw) : GJ g 6 (TP d t J lw (gs g).heap) 0 (TQ g d t (ansI Φ)) 0 [(0, rv (t + 1)), (1, .int p1), (2, .int p2), (3, .int p3)] [] := by
  unfold wp_X3_mend at hw
  have C := B.1
  have hW := B.2.1
  refine gj_aload_n C dX3_mend_0 0 rfl ?_
  refine gj_iconst (v := 0) C dX3_mend_1 rfl ?_
  refine tp134 C hW dX3_mend_2 ?_
  refine gt_nmJ (fun J1 eJ1 => ?_)
  have hw := hw J1 eJ1
  refine gj_aload_n C dX3_mend_5 0 rfl ?_
  refine gj_iload_n C dX3_mend_6 2 rfl ?_
  refine gj_iload_n C dX3_mend_7 3 rfl ?_
  refine tc_X3_isCode B hw (Nat.le_of_ble_eq_true rfl) (Nat.le_of_ble_eq_true rfl) (Nat.le_of_ble_eq_true rfl) dX3_mend_8 (fun r4 J2 l3 br4 hw => ?_)
  refine gj_if_eq (tgt := 30) C dX3_mend_11 rfl (fun c5 => ?_) (fun c5 => ?_)
  · have hw := it_t hw c5
    refine gj_iconst (v := 0) C dX3_mend_30 rfl ?_
    exact gt_iret B hw dX3_mend_31
  · have hw := it_f hw c5
    refine gj_aload_n C dX3_mend_14 0 rfl ?_
    refine gj_iload_n C dX3_mend_15 1 rfl ?_
    refine gj_iconst (v := 0) C dX3_mend_16 rfl ?_
    refine gj_sipush (v := 255) C dX3_mend_17 rfl ?_
    refine tc_X3_within B hw (Nat.le_of_ble_eq_true rfl) (Nat.le_of_ble_eq_true rfl) (Nat.le_of_ble_eq_true rfl) dX3_mend_20 (fun r8 J6 l7 br8 hw => ?_)
    refine gj_iconst (v := 1) C dX3_mend_23 rfl ?_
    refine tc_X3_right B hw (Nat.le_of_ble_eq_true rfl) (Nat.le_of_ble_eq_true rfl) (Nat.le_of_ble_eq_true rfl) dX3_mend_24 (fun r11 J9 l10 br11 hw => ?_)
    refine gj_if_ne (tgt := 32) C dX3_mend_27 rfl (fun c12 => ?_) (fun c12 => ?_)
    · have hw := it_f hw c12
      refine gj_aload_n C dX3_mend_32 0 rfl ?_
      refine gj_iload_n C dX3_mend_33 3 rfl ?_
      refine tc_X3_spells B hw (Nat.le_of_ble_eq_true rfl) (Nat.le_of_ble_eq_true rfl) (Nat.le_of_ble_eq_true rfl) dX3_mend_34 (fun J13 l14 hw => ?_)
      refine gj_aload_n C dX3_mend_37 0 rfl ?_
      refine gj_iload_n C dX3_mend_38 2 rfl ?_
      refine gj_aload_n C dX3_mend_39 0 rfl ?_
      refine tg407 C hW dX3_mend_40 ?_
      have key : ∀ x16 : Int32, x16 = (if (J13 0 62) < p2 then 0 else 1) → GJ g 6 (TP d t J13 l14 (gs g).heap) 0 (TQ g d t (ansI Φ)) 51 [(0, rv (t + 1)), (1, .int p1), (2, .int p2), (3, .int p3)] [.int x16, rv (t + 1)] → GJ g 6 (TP d t J13 l14 (gs g).heap) 0 (TQ g d t (ansI Φ)) 43 [(0, rv (t + 1)), (1, .int p1), (2, .int p2), (3, .int p3)] [.int (J13 0 62), .int p2, rv (t + 1)] := by
        intro x16 ex16 kk
        refine gj_icmp_gt (tgt := 50) C dX3_mend_43 rfl (fun c17 => ?_) (fun c17 => ?_)
        · refine gj_iconst (v := 0) C dX3_mend_50 rfl ?_
          rw [if_pos c17] at ex16
          subst ex16
          exact kk
        · refine gj_iconst (v := 1) C dX3_mend_46 rfl ?_
          refine gj_goto (tgt := 51) C dX3_mend_47 rfl ?_
          rw [if_neg c17] at ex16
          subst ex16
          exact kk
      obtain ⟨x16, ex16⟩ : ∃ x16 : Int32, x16 = (if (J13 0 62) < p2 then 0 else 1) := ⟨_, rfl⟩
      have bx16 : x16 = 0 ∨ x16 = 1 := by rw [ex16]; (repeat' split) <;> simp
      refine key x16 ex16 ?_
      have hw := hw x16 ex16
      clear key
      refine gj_iconst (v := 1) C dX3_mend_51 rfl ?_
      refine tc_X3_right B hw (Nat.le_of_ble_eq_true rfl) (Nat.le_of_ble_eq_true rfl) (Nat.le_of_ble_eq_true rfl) dX3_mend_52 (fun r20 J18 l19 br20 hw => ?_)
      refine gj_if_ne (tgt := 60) C dX3_mend_55 rfl (fun c21 => ?_) (fun c21 => ?_)
      · have hw := it_f hw c21
        refine gj_iconst (v := 0) C dX3_mend_60 rfl ?_
        refine gj_istore (lc' := [(4, .int 0), (0, rv (t + 1)), (1, .int p1), (2, .int p2), (3, .int p3)]) C dX3_mend_61 (Nat.le_of_ble_eq_true rfl) rfl ?_
        refine gj_iconst (v := 1) C dX3_mend_63 rfl ?_
        refine gj_istore (lc' := [(5, .int 1), (4, .int 0), (0, rv (t + 1)), (1, .int p1), (2, .int p2), (3, .int p3)]) C dX3_mend_64 (Nat.le_of_ble_eq_true rfl) rfl ?_
        refine gj_sub (lc' := [(0, rv (t + 1)), (1, .int p1), (2, .int p2), (3, .int p3), (4, .int 0), (5, .int 1)]) [2, 3, 4, 5, 1, 0] rfl ?_
        exact wq_X3_mend_66 B _ _ _ _ _ _ _ _ hw
      · have hw := it_t hw c21
        refine gj_iconst (v := 0) C dX3_mend_58 rfl ?_
        exact gt_iret B hw dX3_mend_59
    · have hw := it_t hw c12
      refine gj_iconst (v := 0) C dX3_mend_30 rfl ?_
      exact gt_iret B hw dX3_mend_31

theorem met_X3_mend (l : Launch) {d : TD} {t : Nat} {J : Nat → Nat → Int32} {lw : Int64} {p1 : Int32} {p2 : Int32} {p3 : Int32} {Φ : Int32 → (Nat → Nat → Int32) → Int64 → Prop} (hw : wp_X3_mend p1 p2 p3 Φ J lw) : MetT l yX3_mend prog_11_method_94_code 6 (some .int) 2 47 [.ref t, .int p1, .int p2, .int p3] d t J lw (ansI Φ) :=
  mt_of (by decide +kernel) rfl (Nat.le_of_ble_eq_true rfl) (fun g _ B => wk_X3_mend B _ _ _ _ J lw hw)
/-! off(II)I -/
def wp_X3_off (p0 : Int32) (p1 : Int32) (Φ : Int32 → (Nat → Nat → Int32) → Int64 → Prop) (J : Nat → Nat → Int32) (lw : Int64) : Prop :=
(∀ x1 : Int32, x1 = (if p1 ≤ p0 then (p0 - p1) else (p1 - p0)) → Φ x1 J lw)
theorem wk_X3_off {g : Gm} {d : TD} {t : Nat} (B : BdT g d prog_11_method_5_code 2 (some .int) 0 0) (p0 : Int32) (p1 : Int32) (Φ : Int32 → (Nat → Nat → Int32) → Int64 → Prop) (J : Nat → Nat → Int32) (lw : Int64) (hw : wp_X3_off p0 p1 Φ J lw) : GJ g 2 (TP d t J lw (gs g).heap) 0 (TQ g d t (ansI Φ)) 0 [(0, .int p0), (1, .int p1)] [] := by
  unfold wp_X3_off at hw
  have C := B.1
  have hW := B.2.1
  refine gj_iload_n C dX3_off_0 0 rfl ?_
  refine gj_iload_n C dX3_off_1 1 rfl ?_
  have key : ∀ x1 : Int32, x1 = (if p1 ≤ p0 then (p0 - p1) else (p1 - p0)) → GJ g 2 (TP d t J lw (gs g).heap) 0 (TQ g d t (ansI Φ)) 14 [(0, .int p0), (1, .int p1)] [.int x1] → GJ g 2 (TP d t J lw (gs g).heap) 0 (TQ g d t (ansI Φ)) 2 [(0, .int p0), (1, .int p1)] [.int p1, .int p0] := by
    intro x1 ex1 kk
    refine gj_icmp_ge (tgt := 11) C dX3_off_2 rfl (fun c2 => ?_) (fun c2 => ?_)
    · refine gj_iload_n C dX3_off_11 0 rfl ?_
      refine gj_iload_n C dX3_off_12 1 rfl ?_
      refine gj_isub C dX3_off_13 ?_
      rw [if_pos c2] at ex1
      subst ex1
      exact kk
    · refine gj_iload_n C dX3_off_5 1 rfl ?_
      refine gj_iload_n C dX3_off_6 0 rfl ?_
      refine gj_isub C dX3_off_7 ?_
      refine gj_goto (tgt := 14) C dX3_off_8 rfl ?_
      rw [if_neg c2] at ex1
      subst ex1
      exact kk
  obtain ⟨x1, ex1⟩ : ∃ x1 : Int32, x1 = (if p1 ≤ p0 then (p0 - p1) else (p1 - p0)) := ⟨_, rfl⟩
  refine key x1 ex1 ?_
  have hw := hw x1 ex1
  clear key
  exact gt_iret B hw dX3_off_14

theorem met_X3_off (l : Launch) {d : TD} {t : Nat} {J : Nat → Nat → Int32} {lw : Int64} {p0 : Int32} {p1 : Int32} {Φ : Int32 → (Nat → Nat → Int32) → Int64 → Prop} (hw : wp_X3_off p0 p1 Φ J lw) : MetT l yX3_off prog_11_method_5_code 2 (some .int) 0 0 [.int p0, .int p1] d t J lw (ansI Φ) :=
  mt_of (by decide +kernel) rfl (Nat.le_of_ble_eq_true rfl) (fun g _ B => wk_X3_off B _ _ _ J lw hw)
theorem tc_X3_off {g : Gm} {d : TD} {t : Nat} {cc : ByteArray} {nL : Nat} {ret : Option FieldType} {fr lo : Nat} (B : BdT g d cc nL ret fr lo) {J : Nat → Nat → Int32} {lw : Int64} {H0 : Heap} {Q : State → Prop} {pc : Nat} {lc : List (Nat × Value)} {rest : List Value} {p0 : Int32} {p1 : Int32} {Φ : Int32 → (Nat → Nat → Int32) → Int64 → Prop} (hw : wp_X3_off p0 p1 Φ J lw) (hf : 1 ≤ fr) (hlo : 21 ≤ lo) (hrest : (rest.map fun v => v.category).sum ≤ 8) (dg : decode cc pc = .ok (.invokestatic 419, 3)) (k : ∀ (r : Int32) J' lw', Φ r J' lw' → GJ g nL (TP d t J' lw' H0) 0 Q (pc + 3) lc (.int r :: rest)) : GJ g nL (TP d t J lw H0) 0 Q pc lc (.int p1 :: .int p0 :: rest) :=
  gt_callS (n := 2) (As := [.int p0, .int p1]) B (met_X3_off g.2.1 hw) (lw_S q1770 q1771 q97 q1772) ⟨by decide +kernel, by decide +kernel, by decide +kernel⟩ rfl hf hlo ⟨Nat.zero_le _, Nat.zero_le _⟩ rfl hrest dg (fun v J' lw' hp => by obtain ⟨r, rfl, hp⟩ := hp; exact k r J' lw' hp)
/-! fire(IIIII)J -/
def wf_X3_fire_149 (p1 : Int32) (p2 : Int32) (p3 : Int32) (p4 : Int32) (p5 : Int32) (Φ : Int64 → (Nat → Nat → Int32) → Int64 → Prop) (X149 : Int32 → Int32 → Int32 → Int32 → (Nat → Nat → Int32) → Int64 → Prop) (v8 : Int32) (v9 : Int32) (v10 : Int32) (v11 : Int32) (J : Nat → Nat → Int32) (lw : Int64) : Prop :=
(if v11 = 0 then (if p5 = 0 then (¬ v10 = 0 ∧ Φ (Int32.toInt64 ((v9 - v8) / v10)) J lw) else (¬ v10 = 0 ∧ Φ (Int32.toInt64 (v9 / v10)) J lw)) else (¬ v11 = 0 ∧ (∀ x40 : Int32, x40 = (v10 - v10 / v11 * v11) → X149 v8 v9 v11 x40 J lw)))
def wl_X3_fire_149 (p1 : Int32) (p2 : Int32) (p3 : Int32) (p4 : Int32) (p5 : Int32) (Φ : Int64 → (Nat → Nat → Int32) → Int64 → Prop) (v8 : Int32) (v9 : Int32) (v10 : Int32) (v11 : Int32) (J : Nat → Nat → Int32) (lw : Int64) : Prop := ∀ X149 : Int32 → Int32 → Int32 → Int32 → (Nat → Nat → Int32) → Int64 → Prop, (∀ v8 v9 v10 v11 J lw, wf_X3_fire_149 p1 p2 p3 p4 p5 Φ X149 v8 v9 v10 v11 J lw → X149 v8 v9 v10 v11 J lw) → X149 v8 v9 v10 v11 J lw
theorem wk_X3_fire_149 {g : Gm} {d : TD} {t : Nat} (B : BdT g d prog_11_method_95_code 13 (some .long) 2 43) (p1 : Int32) (p2 : Int32) (p3 : Int32) (p4 : Int32) (p5 : Int32) (Φ : Int64 → (Nat → Nat → Int32) → Int64 → Prop) (X149 : Int32 → Int32 → Int32 → Int32 → (Nat → Nat → Int32) → Int64 → Prop) (hX149 : ∀ v8 v9 v10 v11 J lw, X149 v8 v9 v10 v11 J lw → GJ g 13 (TP d t J lw (gs g).heap) 0 (TQ g d t (ansL Φ)) 149 [(5, .int p5), (8, .int v8), (9, .int v9), (10, .int v10), (11, .int v11)] []) (v8 : Int32) (v9 : Int32) (v10 : Int32) (v11 : Int32) (J : Nat → Nat → Int32) (lw : Int64) (hw : wf_X3_fire_149 p1 p2 p3 p4 p5 Φ X149 v8 v9 v10 v11 J lw) : GJ g 13 (TP d t J lw (gs g).heap) 0 (TQ g d t (ansL Φ)) 149 [(5, .int p5), (8, .int v8), (9, .int v9), (10, .int v10), (11, .int v11)] [] := by
  unfold wf_X3_fire_149 at hw
  have C := B.1
  have hW := B.2.1
  refine gj_iload C dX3_fire_149 4 rfl ?_
  refine gj_if_eq (tgt := 172) C dX3_fire_151 rfl (fun c35 => ?_) (fun c35 => ?_)
  · have hw := it_t hw c35
    refine gj_iload C dX3_fire_172 0 rfl ?_
    refine gj_if_ne (tgt := 189) C dX3_fire_174 rfl (fun c36 => ?_) (fun c36 => ?_)
    · have hw := it_f hw c36
      refine gj_iload C dX3_fire_189 2 rfl ?_
      refine gj_iload C dX3_fire_191 3 rfl ?_
      obtain ⟨h37, hw⟩ := hw
      refine gj_idiv C dX3_fire_193 h37 ?_
      refine gj_i2l C dX3_fire_194 ?_
      exact gt_lret B hw dX3_fire_195
    · have hw := it_t hw c36
      refine gj_iload C dX3_fire_177 2 rfl ?_
      refine gj_iload C dX3_fire_179 1 rfl ?_
      refine gj_isub C dX3_fire_181 ?_
      refine gj_iload C dX3_fire_182 3 rfl ?_
      obtain ⟨h38, hw⟩ := hw
      refine gj_idiv C dX3_fire_184 h38 ?_
      refine gj_i2l C dX3_fire_185 ?_
      refine gj_goto (tgt := 195) C dX3_fire_186 rfl ?_
      exact gt_lret B hw dX3_fire_195
  · have hw := it_f hw c35
    refine gj_iload C dX3_fire_154 3 rfl ?_
    refine gj_iload C dX3_fire_156 4 rfl ?_
    obtain ⟨h39, hw⟩ := hw
    refine gj_irem C dX3_fire_158 h39 ?_
    refine gj_topi (fun x40 ex40 => ?_)
    have hw := hw x40 ex40
    refine gj_istore (lc' := [(12, .int x40), (5, .int p5), (8, .int v8), (9, .int v9), (10, .int v10), (11, .int v11)]) C dX3_fire_159 (Nat.le_of_ble_eq_true rfl) rfl ?_
    refine gj_iload C dX3_fire_161 5 rfl ?_
    refine gj_istore (lc' := [(10, .int v11), (12, .int x40), (5, .int p5), (8, .int v8), (9, .int v9), (11, .int v11)]) C dX3_fire_163 (Nat.le_of_ble_eq_true rfl) rfl ?_
    refine gj_iload C dX3_fire_165 1 rfl ?_
    refine gj_istore (lc' := [(11, .int x40), (10, .int v11), (12, .int x40), (5, .int p5), (8, .int v8), (9, .int v9)]) C dX3_fire_167 (Nat.le_of_ble_eq_true rfl) rfl ?_
    refine gj_goto (tgt := 149) C dX3_fire_169 rfl ?_
    refine gj_sub (lc' := [(5, .int p5), (8, .int v8), (9, .int v9), (10, .int v11), (11, .int x40)]) [3, 4, 5, 1, 0] rfl ?_
    exact hX149 _ _ _ _ _ _ hw

theorem wq_X3_fire_149 {g : Gm} {d : TD} {t : Nat} (B : BdT g d prog_11_method_95_code 13 (some .long) 2 43) (p1 : Int32) (p2 : Int32) (p3 : Int32) (p4 : Int32) (p5 : Int32) (Φ : Int64 → (Nat → Nat → Int32) → Int64 → Prop) (v8 : Int32) (v9 : Int32) (v10 : Int32) (v11 : Int32) (J : Nat → Nat → Int32) (lw : Int64) (hw : wl_X3_fire_149 p1 p2 p3 p4 p5 Φ v8 v9 v10 v11 J lw) : GJ g 13 (TP d t J lw (gs g).heap) 0 (TQ g d t (ansL Φ)) 149 [(5, .int p5), (8, .int v8), (9, .int v9), (10, .int v10), (11, .int v11)] [] :=
  hw (fun v8 v9 v10 v11 J lw => GJ g 13 (TP d t J lw (gs g).heap) 0 (TQ g d t (ansL Φ)) 149 [(5, .int p5), (8, .int v8), (9, .int v9), (10, .int v10), (11, .int v11)] []) (fun v8 v9 v10 v11 J lw h => wk_X3_fire_149 B p1 p2 p3 p4 p5 Φ (fun v8 v9 v10 v11 J lw => GJ g 13 (TP d t J lw (gs g).heap) 0 (TQ g d t (ansL Φ)) 149 [(5, .int p5), (8, .int v8), (9, .int v9), (10, .int v10), (11, .int v11)] []) (fun v8 v9 v10 v11 J lw h => h) v8 v9 v10 v11 J lw h)
def wf_X3_fire_108 (p1 : Int32) (p2 : Int32) (p3 : Int32) (p4 : Int32) (p5 : Int32) (Φ : Int64 → (Nat → Nat → Int32) → Int64 → Prop) (X108 : Int32 → Int32 → Int32 → Int32 → (Nat → Nat → Int32) → Int64 → Prop) (v7 : Int32) (v8 : Int32) (v9 : Int32) (v10 : Int32) (J : Nat → Nat → Int32) (lw : Int64) : Prop :=
(if v7 ≤ v10 then (∀ x34 : Int32, x34 = (v9 - v8) → wl_X3_fire_149 p1 p2 p3 p4 p5 Φ v8 v9 v9 x34 J lw) else (∀ x41 : Int32, x41 = (v8 * (10 - p4)) → (∀ x42 : Int32, x42 = (v9 * 10) → (∀ x43 : Int32, x43 = v10 + 1 → X108 v7 x41 x42 x43 J lw))))
def wl_X3_fire_108 (p1 : Int32) (p2 : Int32) (p3 : Int32) (p4 : Int32) (p5 : Int32) (Φ : Int64 → (Nat → Nat → Int32) → Int64 → Prop) (v7 : Int32) (v8 : Int32) (v9 : Int32) (v10 : Int32) (J : Nat → Nat → Int32) (lw : Int64) : Prop := ∀ X108 : Int32 → Int32 → Int32 → Int32 → (Nat → Nat → Int32) → Int64 → Prop, (∀ v7 v8 v9 v10 J lw, wf_X3_fire_108 p1 p2 p3 p4 p5 Φ X108 v7 v8 v9 v10 J lw → X108 v7 v8 v9 v10 J lw) → X108 v7 v8 v9 v10 J lw
theorem wk_X3_fire_108 {g : Gm} {d : TD} {t : Nat} (B : BdT g d prog_11_method_95_code 13 (some .long) 2 43) (p1 : Int32) (p2 : Int32) (p3 : Int32) (p4 : Int32) (p5 : Int32) (Φ : Int64 → (Nat → Nat → Int32) → Int64 → Prop) (X108 : Int32 → Int32 → Int32 → Int32 → (Nat → Nat → Int32) → Int64 → Prop) (hX108 : ∀ v7 v8 v9 v10 J lw, X108 v7 v8 v9 v10 J lw → GJ g 13 (TP d t J lw (gs g).heap) 0 (TQ g d t (ansL Φ)) 108 [(4, .int p4), (5, .int p5), (7, .int v7), (8, .int v8), (9, .int v9), (10, .int v10)] []) (v7 : Int32) (v8 : Int32) (v9 : Int32) (v10 : Int32) (J : Nat → Nat → Int32) (lw : Int64) (hw : wf_X3_fire_108 p1 p2 p3 p4 p5 Φ X108 v7 v8 v9 v10 J lw) : GJ g 13 (TP d t J lw (gs g).heap) 0 (TQ g d t (ansL Φ)) 108 [(4, .int p4), (5, .int p5), (7, .int v7), (8, .int v8), (9, .int v9), (10, .int v10)] [] := by
  unfold wf_X3_fire_108 at hw
  have C := B.1
  have hW := B.2.1
  refine gj_iload C dX3_fire_108 5 rfl ?_
  refine gj_iload C dX3_fire_110 2 rfl ?_
  refine gj_icmp_ge (tgt := 138) C dX3_fire_112 rfl (fun c33 => ?_) (fun c33 => ?_)
  · have hw := it_t hw c33
    refine gj_iload C dX3_fire_138 4 rfl ?_
    refine gj_istore (lc' := [(10, .int v9), (4, .int p4), (5, .int p5), (7, .int v7), (8, .int v8), (9, .int v9)]) C dX3_fire_140 (Nat.le_of_ble_eq_true rfl) rfl ?_
    refine gj_iload C dX3_fire_142 5 rfl ?_
    refine gj_iload C dX3_fire_144 4 rfl ?_
    refine gj_isub C dX3_fire_146 ?_
    refine gj_topi (fun x34 ex34 => ?_)
    have hw := hw x34 ex34
    refine gj_istore (lc' := [(11, .int x34), (10, .int v9), (4, .int p4), (5, .int p5), (7, .int v7), (8, .int v8), (9, .int v9)]) C dX3_fire_147 (Nat.le_of_ble_eq_true rfl) rfl ?_
    refine gj_sub (lc' := [(5, .int p5), (8, .int v8), (9, .int v9), (10, .int v9), (11, .int x34)]) [3, 5, 6, 1, 0] rfl ?_
    exact wq_X3_fire_149 B _ _ _ _ _ _ _ _ _ _ _ _ hw
  · have hw := it_f hw c33
    refine gj_iload C dX3_fire_115 3 rfl ?_
    refine gj_bipush (v := 10) C dX3_fire_117 rfl ?_
    refine gj_iload C dX3_fire_119 0 rfl ?_
    refine gj_isub C dX3_fire_121 ?_
    refine gj_imul C dX3_fire_122 ?_
    refine gj_topi (fun x41 ex41 => ?_)
    have hw := hw x41 ex41
    refine gj_istore (lc' := [(8, .int x41), (4, .int p4), (5, .int p5), (7, .int v7), (9, .int v9), (10, .int v10)]) C dX3_fire_123 (Nat.le_of_ble_eq_true rfl) rfl ?_
    refine gj_iload C dX3_fire_125 4 rfl ?_
    refine gj_bipush (v := 10) C dX3_fire_127 rfl ?_
    refine gj_imul C dX3_fire_129 ?_
    refine gj_topi (fun x42 ex42 => ?_)
    have hw := hw x42 ex42
    refine gj_istore (lc' := [(9, .int x42), (8, .int x41), (4, .int p4), (5, .int p5), (7, .int v7), (10, .int v10)]) C dX3_fire_130 (Nat.le_of_ble_eq_true rfl) rfl ?_
    obtain ⟨x43, ex43⟩ : ∃ x43 : Int32, x43 = v10 + 1 := ⟨_, rfl⟩
    have hw := hw x43 ex43
    refine gj_iinc (lc' := [(10, .int x43), (9, .int x42), (8, .int x41), (4, .int p4), (5, .int p5), (7, .int v7)]) (w := 1) (v := x43) C dX3_fire_132 5 rfl rfl ex43.symm (Nat.le_of_ble_eq_true rfl) rfl ?_
    refine gj_goto (tgt := 108) C dX3_fire_135 rfl ?_
    refine gj_sub (lc' := [(4, .int p4), (5, .int p5), (7, .int v7), (8, .int x41), (9, .int x42), (10, .int x43)]) [3, 4, 5, 2, 1, 0] rfl ?_
    exact hX108 _ _ _ _ _ _ hw

theorem wq_X3_fire_108 {g : Gm} {d : TD} {t : Nat} (B : BdT g d prog_11_method_95_code 13 (some .long) 2 43) (p1 : Int32) (p2 : Int32) (p3 : Int32) (p4 : Int32) (p5 : Int32) (Φ : Int64 → (Nat → Nat → Int32) → Int64 → Prop) (v7 : Int32) (v8 : Int32) (v9 : Int32) (v10 : Int32) (J : Nat → Nat → Int32) (lw : Int64) (hw : wl_X3_fire_108 p1 p2 p3 p4 p5 Φ v7 v8 v9 v10 J lw) : GJ g 13 (TP d t J lw (gs g).heap) 0 (TQ g d t (ansL Φ)) 108 [(4, .int p4), (5, .int p5), (7, .int v7), (8, .int v8), (9, .int v9), (10, .int v10)] [] :=
  hw (fun v7 v8 v9 v10 J lw => GJ g 13 (TP d t J lw (gs g).heap) 0 (TQ g d t (ansL Φ)) 108 [(4, .int p4), (5, .int p5), (7, .int v7), (8, .int v8), (9, .int v9), (10, .int v10)] []) (fun v7 v8 v9 v10 J lw h => wk_X3_fire_108 B p1 p2 p3 p4 p5 Φ (fun v7 v8 v9 v10 J lw => GJ g 13 (TP d t J lw (gs g).heap) 0 (TQ g d t (ansL Φ)) 108 [(4, .int p4), (5, .int p5), (7, .int v7), (8, .int v8), (9, .int v9), (10, .int v10)] []) (fun v7 v8 v9 v10 J lw h => h) v7 v8 v9 v10 J lw h)
def wp_X3_fire (p1 : Int32) (p2 : Int32) (p3 : Int32) (p4 : Int32) (p5 : Int32) (Φ : Int64 → (Nat → Nat → Int32) → Int64 → Prop) (J : Nat → Nat → Int32) (lw : Int64) : Prop :=
(∀ J1 : Nat → Nat → Int32, J1 = u2 J 0 0 0 → (wp_X3_isLodger p1 (fun r4 J2 l3 => (if r4 = 0 then Φ 0 J2 l3 else (wp_X3_isRoom p2 (fun r8 J6 l7 => (if r8 = 0 then Φ 0 J6 l7 else (wp_X3_isHour p3 (fun r12 J10 l11 => (if r12 = 0 then Φ 0 J10 l11 else (wp_X3_isTwo p5 (fun r16 J14 l15 => (if r16 = 0 then Φ 0 J14 l15 else (wp_X3_within p4 0 10 (fun r20 J18 l19 => (wp_X3_right r20 2 (fun r23 J21 l22 => (if r23 = 0 then Φ 0 J21 l22 else (vp_in ((24 * p1) + p3) (tln 38) ∧ (if (J21 38 (Int32.toNatClampNeg ((24 * p1) + p3))) = 1 then (vp_in p1 (tln 7) ∧ (wp_X3_off (J21 7 (Int32.toNatClampNeg p1)) p2 (fun r30 J28 l29 => (∀ x31 : Int32, x31 = (if 2 ≤ r30 then 2 else r30) → wl_X3_fire_108 p1 p2 p3 p4 p5 Φ x31 1 1 0 J28 l29)) J21 l22)) else Φ 1 J21 l22)))) J18 l19)) J14 l15))) J10 l11))) J6 l7))) J2 l3))) J1 lw))
theorem wk_X3_fire {g : Gm} {d : TD} {t : Nat} (B : BdT g d prog_11_method_95_code 13 (some .long) 2 43) (p1 : Int32) (p2 : Int32) (p3 : Int32) (p4 : Int32) (p5 : Int32) (Φ : Int64 → (Nat → Nat → Int32) → Int64 → Prop) (J : Nat → Nat → Int32) (lw : Int64) (hw : wp_X3_fire p1 p2 p3 p4 p5 Φ J lw) : GJ g 13 (TP d t J lw (gs g).heap) 0 (TQ g d t (ansL Φ)) 0 [(0, rv (t + 1)), (1, .int p1), (2, .int p2), (3, .int p3), (4, .int p4), (5, .int p5)] [] := by
  unfold wp_X3_fire at hw
  have C := B.1
  have hW := B.2.1
  refine gj_aload_n C dX3_fire_0 0 rfl ?_
  refine gj_iconst (v := 0) C dX3_fire_1 rfl ?_
  refine tp134 C hW dX3_fire_2 ?_
  refine gt_nmJ (fun J1 eJ1 => ?_)
  have hw := hw J1 eJ1
  refine gj_aload_n C dX3_fire_5 0 rfl ?_
  refine gj_iload_n C dX3_fire_6 1 rfl ?_
  refine tc_X3_isLodger B hw (Nat.le_of_ble_eq_true rfl) (Nat.le_of_ble_eq_true rfl) (Nat.le_of_ble_eq_true rfl) dX3_fire_7 (fun r4 J2 l3 br4 hw => ?_)
  refine gj_if_eq (tgt := 54) C dX3_fire_10 rfl (fun c5 => ?_) (fun c5 => ?_)
  · have hw := it_t hw c5
    refine gj_lconst (v := 0) C dX3_fire_54 rfl ?_
    exact gt_lret B hw dX3_fire_55
  · have hw := it_f hw c5
    refine gj_aload_n C dX3_fire_13 0 rfl ?_
    refine gj_iload_n C dX3_fire_14 2 rfl ?_
    refine tc_X3_isRoom B hw (Nat.le_of_ble_eq_true rfl) (Nat.le_of_ble_eq_true rfl) (Nat.le_of_ble_eq_true rfl) dX3_fire_15 (fun r8 J6 l7 br8 hw => ?_)
    refine gj_if_eq (tgt := 54) C dX3_fire_18 rfl (fun c9 => ?_) (fun c9 => ?_)
    · have hw := it_t hw c9
      refine gj_lconst (v := 0) C dX3_fire_54 rfl ?_
      exact gt_lret B hw dX3_fire_55
    · have hw := it_f hw c9
      refine gj_aload_n C dX3_fire_21 0 rfl ?_
      refine gj_iload_n C dX3_fire_22 3 rfl ?_
      refine tc_X3_isHour B hw (Nat.le_of_ble_eq_true rfl) (Nat.le_of_ble_eq_true rfl) (Nat.le_of_ble_eq_true rfl) dX3_fire_23 (fun r12 J10 l11 br12 hw => ?_)
      refine gj_if_eq (tgt := 54) C dX3_fire_26 rfl (fun c13 => ?_) (fun c13 => ?_)
      · have hw := it_t hw c13
        refine gj_lconst (v := 0) C dX3_fire_54 rfl ?_
        exact gt_lret B hw dX3_fire_55
      · have hw := it_f hw c13
        refine gj_aload_n C dX3_fire_29 0 rfl ?_
        refine gj_iload C dX3_fire_30 5 rfl ?_
        refine tc_X3_isTwo B hw (Nat.le_of_ble_eq_true rfl) (Nat.le_of_ble_eq_true rfl) (Nat.le_of_ble_eq_true rfl) dX3_fire_32 (fun r16 J14 l15 br16 hw => ?_)
        refine gj_if_eq (tgt := 54) C dX3_fire_35 rfl (fun c17 => ?_) (fun c17 => ?_)
        · have hw := it_t hw c17
          refine gj_lconst (v := 0) C dX3_fire_54 rfl ?_
          exact gt_lret B hw dX3_fire_55
        · have hw := it_f hw c17
          refine gj_aload_n C dX3_fire_38 0 rfl ?_
          refine gj_iload C dX3_fire_39 4 rfl ?_
          refine gj_iconst (v := 0) C dX3_fire_41 rfl ?_
          refine gj_bipush (v := 10) C dX3_fire_42 rfl ?_
          refine tc_X3_within B hw (Nat.le_of_ble_eq_true rfl) (Nat.le_of_ble_eq_true rfl) (Nat.le_of_ble_eq_true rfl) dX3_fire_44 (fun r20 J18 l19 br20 hw => ?_)
          refine gj_iconst (v := 2) C dX3_fire_47 rfl ?_
          refine tc_X3_right B hw (Nat.le_of_ble_eq_true rfl) (Nat.le_of_ble_eq_true rfl) (Nat.le_of_ble_eq_true rfl) dX3_fire_48 (fun r23 J21 l22 br23 hw => ?_)
          refine gj_if_ne (tgt := 56) C dX3_fire_51 rfl (fun c24 => ?_) (fun c24 => ?_)
          · have hw := it_f hw c24
            refine gj_aload_n C dX3_fire_56 0 rfl ?_
            refine tg65 C hW dX3_fire_57 ?_
            refine gj_bipush (v := 24) C dX3_fire_60 rfl ?_
            refine gj_iload_n C dX3_fire_62 1 rfl ?_
            refine gj_imul C dX3_fire_63 ?_
            refine gj_iload_n C dX3_fire_64 3 rfl ?_
            refine gj_iadd C dX3_fire_65 ?_
            obtain ⟨h25, hw⟩ := hw
            refine gt_iald C hW (by decide) h25 dX3_fire_66 ?_
            refine gj_iconst (v := 1) C dX3_fire_67 rfl ?_
            refine gj_icmp_eq (tgt := 73) C dX3_fire_68 rfl (fun c26 => ?_) (fun c26 => ?_)
            · have hw := it_t hw c26
              refine gj_aload_n C dX3_fire_73 0 rfl ?_
              refine tg16 C hW dX3_fire_74 ?_
              refine gj_iload_n C dX3_fire_77 1 rfl ?_
              obtain ⟨h27, hw⟩ := hw
              refine gt_iald C hW (by decide) h27 dX3_fire_78 ?_
              refine gj_iload_n C dX3_fire_79 2 rfl ?_
              refine tc_X3_off B hw (Nat.le_of_ble_eq_true rfl) (Nat.le_of_ble_eq_true rfl) (Nat.le_of_ble_eq_true rfl) dX3_fire_80 (fun r30 J28 l29 hw => ?_)
              refine gj_istore (lc' := [(6, .int r30), (0, rv (t + 1)), (1, .int p1), (2, .int p2), (3, .int p3), (4, .int p4), (5, .int p5)]) C dX3_fire_83 (Nat.le_of_ble_eq_true rfl) rfl ?_
              refine gj_iload C dX3_fire_85 0 rfl ?_
              refine gj_iconst (v := 2) C dX3_fire_87 rfl ?_
              have key : ∀ x31 : Int32, x31 = (if 2 ≤ r30 then 2 else r30) → GJ g 13 (TP d t J28 l29 (gs g).heap) 0 (TQ g d t (ansL Φ)) 97 [(6, .int r30), (0, rv (t + 1)), (1, .int p1), (2, .int p2), (3, .int p3), (4, .int p4), (5, .int p5)] [.int x31] → GJ g 13 (TP d t J28 l29 (gs g).heap) 0 (TQ g d t (ansL Φ)) 88 [(6, .int r30), (0, rv (t + 1)), (1, .int p1), (2, .int p2), (3, .int p3), (4, .int p4), (5, .int p5)] [.int 2, .int r30] := by
                intro x31 ex31 kk
                refine gj_icmp_ge (tgt := 96) C dX3_fire_88 rfl (fun c32 => ?_) (fun c32 => ?_)
                · refine gj_iconst (v := 2) C dX3_fire_96 rfl ?_
                  rw [if_pos c32] at ex31
                  subst ex31
                  exact kk
                · refine gj_iload C dX3_fire_91 0 rfl ?_
                  refine gj_goto (tgt := 97) C dX3_fire_93 rfl ?_
                  rw [if_neg c32] at ex31
                  subst ex31
                  exact kk
              obtain ⟨x31, ex31⟩ : ∃ x31 : Int32, x31 = (if 2 ≤ r30 then 2 else r30) := ⟨_, rfl⟩
              refine key x31 ex31 ?_
              have hw := hw x31 ex31
              clear key
              refine gj_istore (lc' := [(7, .int x31), (6, .int r30), (0, rv (t + 1)), (1, .int p1), (2, .int p2), (3, .int p3), (4, .int p4), (5, .int p5)]) C dX3_fire_97 (Nat.le_of_ble_eq_true rfl) rfl ?_
              refine gj_iconst (v := 1) C dX3_fire_99 rfl ?_
              refine gj_istore (lc' := [(8, .int 1), (7, .int x31), (6, .int r30), (0, rv (t + 1)), (1, .int p1), (2, .int p2), (3, .int p3), (4, .int p4), (5, .int p5)]) C dX3_fire_100 (Nat.le_of_ble_eq_true rfl) rfl ?_
              refine gj_iconst (v := 1) C dX3_fire_102 rfl ?_
              refine gj_istore (lc' := [(9, .int 1), (8, .int 1), (7, .int x31), (6, .int r30), (0, rv (t + 1)), (1, .int p1), (2, .int p2), (3, .int p3), (4, .int p4), (5, .int p5)]) C dX3_fire_103 (Nat.le_of_ble_eq_true rfl) rfl ?_
              refine gj_iconst (v := 0) C dX3_fire_105 rfl ?_
              refine gj_istore (lc' := [(10, .int 0), (9, .int 1), (8, .int 1), (7, .int x31), (6, .int r30), (0, rv (t + 1)), (1, .int p1), (2, .int p2), (3, .int p3), (4, .int p4), (5, .int p5)]) C dX3_fire_106 (Nat.le_of_ble_eq_true rfl) rfl ?_
              refine gj_sub (lc' := [(4, .int p4), (5, .int p5), (7, .int x31), (8, .int 1), (9, .int 1), (10, .int 0)]) [9, 10, 3, 2, 1, 0] rfl ?_
              exact wq_X3_fire_108 B _ _ _ _ _ _ _ _ _ _ _ _ hw
            · have hw := it_f hw c26
              refine gj_lconst (v := 1) C dX3_fire_71 rfl ?_
              exact gt_lret B hw dX3_fire_72
          · have hw := it_t hw c24
            refine gj_lconst (v := 0) C dX3_fire_54 rfl ?_
            exact gt_lret B hw dX3_fire_55

theorem met_X3_fire (l : Launch) {d : TD} {t : Nat} {J : Nat → Nat → Int32} {lw : Int64} {p1 : Int32} {p2 : Int32} {p3 : Int32} {p4 : Int32} {p5 : Int32} {Φ : Int64 → (Nat → Nat → Int32) → Int64 → Prop} (hw : wp_X3_fire p1 p2 p3 p4 p5 Φ J lw) : MetT l yX3_fire prog_11_method_95_code 13 (some .long) 2 43 [.ref t, .int p1, .int p2, .int p3, .int p4, .int p5] d t J lw (ansL Φ) :=
  mt_of (by decide +kernel) rfl (Nat.le_of_ble_eq_true rfl) (fun g _ B => wk_X3_fire B _ _ _ _ _ _ J lw hw)
/-! image()V -/
def wp_X3_image (Φ : (Nat → Nat → Int32) → Int64 → Prop) (J : Nat → Nat → Int32) (lw : Int64) : Prop :=
(∀ J1 : Nat → Nat → Int32, J1 = u2 J 0 0 0 → (∀ J2 : Nat → Nat → Int32, J2 = u2 J1 0 63 1 → (vp_in 0 (tln 64) ∧ (∀ J4 : Nat → Nat → Int32, J4 = u2 J2 64 (Int32.toNatClampNeg 0) (J2 0 36) → (vp_in 1 (tln 64) ∧ (∀ J6 : Nat → Nat → Int32, J6 = u2 J4 64 (Int32.toNatClampNeg 1) (J4 0 40) → (vp_in 2 (tln 64) ∧ (∀ J8 : Nat → Nat → Int32, J8 = u2 J6 64 (Int32.toNatClampNeg 2) (J6 0 41) → (wp_X3_copies 37 65 (fun J9 l10 => (wp_X3_copies 42 66 (fun J12 l13 => (wp_X3_copies 38 67 (fun J15 l16 => (wp_X3_copies 39 68 (fun J18 l19 => Φ J18 l19) J15 l16)) J12 l13)) J9 l10)) J8 lw)))))))))
theorem wk_X3_image {g : Gm} {d : TD} {t : Nat} (B : BdT g d prog_11_method_96_code 1 none 1 23) (Φ : (Nat → Nat → Int32) → Int64 → Prop) (J : Nat → Nat → Int32) (lw : Int64) (hw : wp_X3_image Φ J lw) : GJ g 1 (TP d t J lw (gs g).heap) 0 (TQ g d t (ansV Φ)) 0 [(0, rv (t + 1))] [] := by
  unfold wp_X3_image at hw
  have C := B.1
  have hW := B.2.1
  refine gj_aload_n C dX3_image_0 0 rfl ?_
  refine gj_iconst (v := 0) C dX3_image_1 rfl ?_
  refine tp134 C hW dX3_image_2 ?_
  refine gt_nmJ (fun J1 eJ1 => ?_)
  have hw := hw J1 eJ1
  refine gj_aload_n C dX3_image_5 0 rfl ?_
  refine gj_iconst (v := 1) C dX3_image_6 rfl ?_
  refine tp277 C hW (Or.inr rfl) dX3_image_7 ?_
  refine gt_nmJ (fun J2 eJ2 => ?_)
  have hw := hw J2 eJ2
  refine gj_aload_n C dX3_image_10 0 rfl ?_
  refine tg119 C hW dX3_image_11 ?_
  refine gj_iconst (v := 0) C dX3_image_14 rfl ?_
  refine gj_aload_n C dX3_image_15 0 rfl ?_
  refine tg264 C hW dX3_image_16 ?_
  obtain ⟨h3, hw⟩ := hw
  refine gt_iast C hW (by decide) h3 dX3_image_19 ?_
  refine gt_nmJ (fun J4 eJ4 => ?_)
  have hw := hw J4 eJ4
  refine gj_aload_n C dX3_image_20 0 rfl ?_
  refine tg119 C hW dX3_image_21 ?_
  refine gj_iconst (v := 1) C dX3_image_24 rfl ?_
  refine gj_aload_n C dX3_image_25 0 rfl ?_
  refine tg71 C hW dX3_image_26 ?_
  obtain ⟨h5, hw⟩ := hw
  refine gt_iast C hW (by decide) h5 dX3_image_29 ?_
  refine gt_nmJ (fun J6 eJ6 => ?_)
  have hw := hw J6 eJ6
  refine gj_aload_n C dX3_image_30 0 rfl ?_
  refine tg119 C hW dX3_image_31 ?_
  refine gj_iconst (v := 2) C dX3_image_34 rfl ?_
  refine gj_aload_n C dX3_image_35 0 rfl ?_
  refine tg267 C hW dX3_image_36 ?_
  obtain ⟨h7, hw⟩ := hw
  refine gt_iast C hW (by decide) h7 dX3_image_39 ?_
  refine gt_nmJ (fun J8 eJ8 => ?_)
  have hw := hw J8 eJ8
  refine gj_aload_n C dX3_image_40 0 rfl ?_
  refine gj_aload_n C dX3_image_41 0 rfl ?_
  refine tg62 C hW dX3_image_42 ?_
  refine gj_aload_n C dX3_image_45 0 rfl ?_
  refine tg122 C hW dX3_image_46 ?_
  refine tc_X3_copies B hw (Nat.le_of_ble_eq_true rfl) (Nat.le_of_ble_eq_true rfl) (Nat.le_of_ble_eq_true rfl) dX3_image_49 (fun J9 l10 hw => ?_)
  refine gj_aload_n C dX3_image_52 0 rfl ?_
  refine gj_aload_n C dX3_image_53 0 rfl ?_
  refine tg74 C hW dX3_image_54 ?_
  refine gj_aload_n C dX3_image_57 0 rfl ?_
  refine tg125 C hW dX3_image_58 ?_
  refine tc_X3_copies B hw (Nat.le_of_ble_eq_true rfl) (Nat.le_of_ble_eq_true rfl) (Nat.le_of_ble_eq_true rfl) dX3_image_61 (fun J12 l13 hw => ?_)
  refine gj_aload_n C dX3_image_64 0 rfl ?_
  refine gj_aload_n C dX3_image_65 0 rfl ?_
  refine tg65 C hW dX3_image_66 ?_
  refine gj_aload_n C dX3_image_69 0 rfl ?_
  refine tg128 C hW dX3_image_70 ?_
  refine tc_X3_copies B hw (Nat.le_of_ble_eq_true rfl) (Nat.le_of_ble_eq_true rfl) (Nat.le_of_ble_eq_true rfl) dX3_image_73 (fun J15 l16 hw => ?_)
  refine gj_aload_n C dX3_image_76 0 rfl ?_
  refine gj_aload_n C dX3_image_77 0 rfl ?_
  refine tg68 C hW dX3_image_78 ?_
  refine gj_aload_n C dX3_image_81 0 rfl ?_
  refine tg131 C hW dX3_image_82 ?_
  refine tc_X3_copies B hw (Nat.le_of_ble_eq_true rfl) (Nat.le_of_ble_eq_true rfl) (Nat.le_of_ble_eq_true rfl) dX3_image_85 (fun J18 l19 hw => ?_)
  exact gt_vret B hw dX3_image_88

theorem met_X3_image (l : Launch) {d : TD} {t : Nat} {J : Nat → Nat → Int32} {lw : Int64} {Φ : (Nat → Nat → Int32) → Int64 → Prop} (hw : wp_X3_image Φ J lw) : MetT l yX3_image prog_11_method_96_code 1 none 1 23 [.ref t] d t J lw (ansV Φ) :=
  mt_of (by decide +kernel) rfl (Nat.le_of_ble_eq_true rfl) (fun g _ B => wk_X3_image B _ J lw hw)
/-! restore()Z -/
def wp_X3_restore (Φ : Int32 → (Nat → Nat → Int32) → Int64 → Prop) (J : Nat → Nat → Int32) (lw : Int64) : Prop :=
(∀ J1 : Nat → Nat → Int32, J1 = u2 J 0 0 0 → (if (J1 0 63) = 0 then Φ 0 J1 lw else (vp_in 0 (tln 64) ∧ (∀ J4 : Nat → Nat → Int32, J4 = u2 J1 0 36 (J1 64 (Int32.toNatClampNeg 0)) → (vp_in 1 (tln 64) ∧ (∀ J6 : Nat → Nat → Int32, J6 = u2 J4 0 40 (J4 64 (Int32.toNatClampNeg 1)) → (vp_in 2 (tln 64) ∧ (∀ J8 : Nat → Nat → Int32, J8 = u2 J6 0 41 (J6 64 (Int32.toNatClampNeg 2)) → (wp_X3_copies 65 37 (fun J9 l10 => (wp_X3_copies 66 42 (fun J12 l13 => (wp_X3_copies 67 38 (fun J15 l16 => (wp_X3_copies 68 39 (fun J18 l19 => Φ 1 J18 l19) J15 l16)) J12 l13)) J9 l10)) J8 lw)))))))))
theorem wk_X3_restore {g : Gm} {d : TD} {t : Nat} (B : BdT g d prog_11_method_97_code 1 (some .boolean) 1 23) (Φ : Int32 → (Nat → Nat → Int32) → Int64 → Prop) (J : Nat → Nat → Int32) (lw : Int64) (hw : wp_X3_restore Φ J lw) : GJ g 1 (TP d t J lw (gs g).heap) 0 (TQ g d t (ansZ Φ)) 0 [(0, rv (t + 1))] [] := by
  unfold wp_X3_restore at hw
  have C := B.1
  have hW := B.2.1
  refine gj_aload_n C dX3_restore_0 0 rfl ?_
  refine gj_iconst (v := 0) C dX3_restore_1 rfl ?_
  refine tp134 C hW dX3_restore_2 ?_
  refine gt_nmJ (fun J1 eJ1 => ?_)
  have hw := hw J1 eJ1
  refine gj_aload_n C dX3_restore_5 0 rfl ?_
  refine tg277 C hW dX3_restore_6 ?_
  refine gj_if_ne (tgt := 14) C dX3_restore_9 rfl (fun c2 => ?_) (fun c2 => ?_)
  · have hw := it_f hw c2
    refine gj_aload_n C dX3_restore_14 0 rfl ?_
    refine gj_aload_n C dX3_restore_15 0 rfl ?_
    refine tg119 C hW dX3_restore_16 ?_
    refine gj_iconst (v := 0) C dX3_restore_19 rfl ?_
    obtain ⟨h3, hw⟩ := hw
    refine gt_iald C hW (by decide) h3 dX3_restore_20 ?_
    refine tp264 C hW dX3_restore_21 ?_
    refine gt_nmJ (fun J4 eJ4 => ?_)
    have hw := hw J4 eJ4
    refine gj_aload_n C dX3_restore_24 0 rfl ?_
    refine gj_aload_n C dX3_restore_25 0 rfl ?_
    refine tg119 C hW dX3_restore_26 ?_
    refine gj_iconst (v := 1) C dX3_restore_29 rfl ?_
    obtain ⟨h5, hw⟩ := hw
    refine gt_iald C hW (by decide) h5 dX3_restore_30 ?_
    refine tp71 C hW dX3_restore_31 ?_
    refine gt_nmJ (fun J6 eJ6 => ?_)
    have hw := hw J6 eJ6
    refine gj_aload_n C dX3_restore_34 0 rfl ?_
    refine gj_aload_n C dX3_restore_35 0 rfl ?_
    refine tg119 C hW dX3_restore_36 ?_
    refine gj_iconst (v := 2) C dX3_restore_39 rfl ?_
    obtain ⟨h7, hw⟩ := hw
    refine gt_iald C hW (by decide) h7 dX3_restore_40 ?_
    refine tp267 C hW dX3_restore_41 ?_
    refine gt_nmJ (fun J8 eJ8 => ?_)
    have hw := hw J8 eJ8
    refine gj_aload_n C dX3_restore_44 0 rfl ?_
    refine gj_aload_n C dX3_restore_45 0 rfl ?_
    refine tg122 C hW dX3_restore_46 ?_
    refine gj_aload_n C dX3_restore_49 0 rfl ?_
    refine tg62 C hW dX3_restore_50 ?_
    refine tc_X3_copies B hw (Nat.le_of_ble_eq_true rfl) (Nat.le_of_ble_eq_true rfl) (Nat.le_of_ble_eq_true rfl) dX3_restore_53 (fun J9 l10 hw => ?_)
    refine gj_aload_n C dX3_restore_56 0 rfl ?_
    refine gj_aload_n C dX3_restore_57 0 rfl ?_
    refine tg125 C hW dX3_restore_58 ?_
    refine gj_aload_n C dX3_restore_61 0 rfl ?_
    refine tg74 C hW dX3_restore_62 ?_
    refine tc_X3_copies B hw (Nat.le_of_ble_eq_true rfl) (Nat.le_of_ble_eq_true rfl) (Nat.le_of_ble_eq_true rfl) dX3_restore_65 (fun J12 l13 hw => ?_)
    refine gj_aload_n C dX3_restore_68 0 rfl ?_
    refine gj_aload_n C dX3_restore_69 0 rfl ?_
    refine tg128 C hW dX3_restore_70 ?_
    refine gj_aload_n C dX3_restore_73 0 rfl ?_
    refine tg65 C hW dX3_restore_74 ?_
    refine tc_X3_copies B hw (Nat.le_of_ble_eq_true rfl) (Nat.le_of_ble_eq_true rfl) (Nat.le_of_ble_eq_true rfl) dX3_restore_77 (fun J15 l16 hw => ?_)
    refine gj_aload_n C dX3_restore_80 0 rfl ?_
    refine gj_aload_n C dX3_restore_81 0 rfl ?_
    refine tg131 C hW dX3_restore_82 ?_
    refine gj_aload_n C dX3_restore_85 0 rfl ?_
    refine tg68 C hW dX3_restore_86 ?_
    refine tc_X3_copies B hw (Nat.le_of_ble_eq_true rfl) (Nat.le_of_ble_eq_true rfl) (Nat.le_of_ble_eq_true rfl) dX3_restore_89 (fun J18 l19 hw => ?_)
    refine gj_iconst (v := 1) C dX3_restore_92 rfl ?_
    exact gt_zret B (Or.inr rfl) hw dX3_restore_93
  · have hw := it_t hw c2
    refine gj_iconst (v := 0) C dX3_restore_12 rfl ?_
    exact gt_zret B (Or.inl rfl) hw dX3_restore_13

theorem met_X3_restore (l : Launch) {d : TD} {t : Nat} {J : Nat → Nat → Int32} {lw : Int64} {Φ : Int32 → (Nat → Nat → Int32) → Int64 → Prop} (hw : wp_X3_restore Φ J lw) : MetT l yX3_restore prog_11_method_97_code 1 (some .boolean) 1 23 [.ref t] d t J lw (ansZ Φ) :=
  mt_of (by decide +kernel) rfl (Nat.le_of_ble_eq_true rfl) (fun g _ B => wk_X3_restore B _ J lw hw)
