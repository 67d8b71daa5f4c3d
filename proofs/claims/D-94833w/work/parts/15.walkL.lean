set_option maxRecDepth 100000
theorem tc_X0_99 {g : Gm} {w : CD} {cc : ByteArray} {nL : Nat} (C : CxH g cc nL RX0) (hW : WC w (gs g)) {I : MI} {R : MR} {K : MK} {nx : Nat} {H0 : Heap} {cu : Nat} {Q : State → Prop} {pc : Nat} {lc : List (Nat × Value)} {rest : List Value} {r0 : Nat} {p1 : Int32} {p2 : Int32} {p3 : Int32} {p4 : Int32} {p5 : Int32} {Φ : Int32 → MI → MR → MK → Nat → Prop} {Ψ2 : PsiC} (hr : (K r0).1 = 1) (hw : wp_X1_feed w r0 p1 p2 p3 p4 p5 Φ Ψ2 I R K nx) (hR : RmOk g cu 0 0 8 0) (hlt : g.2.1.stackTraces = false) (hrest : (rest.map fun v => v.category).sum ≤ 8) (dg : decode cc pc = .ok (.invokevirtual 99, 3)) (kx : EscC g w nL H0 (cu + 0) Q pc lc rest Ψ2) (k : ∀ (r : Int32) I' R' K' n', Φ r I' R' K' n' → GJ g nL (CP w I' R' K' n' H0) (cu + 0) Q (pc + 3) lc (.int r :: rest)) : GJ g nL (CP w I R K nx H0) cu Q pc lc (.int p5 :: .int p4 :: .int p3 :: .int p2 :: .int p1 :: rv r0 :: rest) := by
  intro H locs ls hP hl
  obtain ⟨a, rfl⟩ := repC_succ (r := r0) hP.1 (by rw [hr]; decide)
  exact gc_callV (n := 5) (As := [.int p1, .int p2, .int p3, .int p4, .int p5]) C hW (met_X1_feed g.2.1 hlt hw) hR (lw_V q265 q266 q267 q92 q268) ⟨rfl, by decide +kernel, by decide +kernel, by decide +kernel⟩ rfl (fun H hP => gc_recv hW.1 hP hr (c := 0) rfl) rfl hrest dg kx (fun v I' R' K' n' hp => by obtain ⟨r, rfl, hp⟩ := hp; exact k r I' R' K' n' hp) H locs ls hP hl
theorem tc_X0_104 {g : Gm} {w : CD} {cc : ByteArray} {nL : Nat} (C : CxH g cc nL RX0) (hW : WC w (gs g)) {I : MI} {R : MR} {K : MK} {nx : Nat} {H0 : Heap} {cu : Nat} {Q : State → Prop} {pc : Nat} {lc : List (Nat × Value)} {rest : List Value} {r0 : Nat} {p1 : Int32} {r2 : Nat} {Φ : Int32 → MI → MR → MK → Nat → Prop} {Ψ2 : PsiC} (hw : wp_X0_house w r0 p1 r2 Φ Ψ2 I R K nx) (hR : RmOk g cu 1100 11 4 263) (hlt : g.2.1.stackTraces = false) (hrest : (rest.map fun v => v.category).sum ≤ 8) (dg : decode cc pc = .ok (.invokestatic 104, 3)) (kx : EscC g w nL H0 (cu + 1100) Q pc lc rest Ψ2) (k : ∀ (r : Int32) I' R' K' n', Φ r I' R' K' n' → GJ g nL (CP w I' R' K' n' H0) (cu + 1100) Q (pc + 3) lc (.int r :: rest)) : GJ g nL (CP w I R K nx H0) cu Q pc lc (rv r2 :: .int p1 :: rv r0 :: rest) := by
  exact gc_callSX (n := 3) (As := [rv r0, .int p1, rv r2]) C hW (met_X0_house g.2.1 hlt hw) hR (lw_SW q486 q487 q91 q488) ⟨by decide +kernel, by decide +kernel, by decide +kernel⟩ rfl rfl hrest dg kx (fun v I' R' K' n' hp => by obtain ⟨r, rfl, hp⟩ := hp; exact k r I' R' K' n' hp)
theorem tc_X0_114 {g : Gm} {w : CD} {cc : ByteArray} {nL : Nat} (C : CxH g cc nL RX0) (hW : WC w (gs g)) {I : MI} {R : MR} {K : MK} {nx : Nat} {H0 : Heap} {cu : Nat} {Q : State → Prop} {pc : Nat} {lc : List (Nat × Value)} {rest : List Value} {r0 : Nat} {Φ : Int32 → MI → MR → MK → Nat → Prop} {Ψ2 : PsiC} (hr : (K r0).1 = 1) (hw : wp_X1_fault w r0 Φ Ψ2 I R K nx) (hR : RmOk g cu 0 0 1 0) (hlt : g.2.1.stackTraces = false) (hrest : (rest.map fun v => v.category).sum ≤ 8) (dg : decode cc pc = .ok (.invokevirtual 114, 3)) (kx : EscC g w nL H0 (cu + 0) Q pc lc rest Ψ2) (k : ∀ (r : Int32) I' R' K' n', Φ r I' R' K' n' → GJ g nL (CP w I' R' K' n' H0) (cu + 0) Q (pc + 3) lc (.int r :: rest)) : GJ g nL (CP w I R K nx H0) cu Q pc lc (rv r0 :: rest) := by
  intro H locs ls hP hl
  obtain ⟨a, rfl⟩ := repC_succ (r := r0) hP.1 (by rw [hr]; decide)
  exact gc_callV (n := 0) (As := []) C hW (met_X1_fault g.2.1 hlt hw) hR (lw_V q269 q270 q271 q92 q272) ⟨rfl, by decide +kernel, by decide +kernel, by decide +kernel⟩ rfl (fun H hP => gc_recv hW.1 hP hr (c := 0) rfl) rfl hrest dg kx (fun v I' R' K' n' hp => by obtain ⟨r, rfl, hp⟩ := hp; exact k r I' R' K' n' hp) H locs ls hP hl
theorem tc_X0_118 {g : Gm} {w : CD} {cc : ByteArray} {nL : Nat} (C : CxH g cc nL RX0) (hW : WC w (gs g)) {I : MI} {R : MR} {K : MK} {nx : Nat} {H0 : Heap} {cu : Nat} {Q : State → Prop} {pc : Nat} {lc : List (Nat × Value)} {rest : List Value} {r0 : Nat} {p1 : Int32} {r2 : Nat} {Φ : Int32 → MI → MR → MK → Nat → Prop} {Ψ2 : PsiC} (hw : wp_X0_count w r0 p1 r2 Φ Ψ2 I R K nx) (hR : RmOk g cu 1 10 4 161) (hlt : g.2.1.stackTraces = false) (hrest : (rest.map fun v => v.category).sum ≤ 8) (dg : decode cc pc = .ok (.invokestatic 118, 3)) (kx : EscC g w nL H0 (cu + 1) Q pc lc rest Ψ2) (k : ∀ (r : Int32) I' R' K' n', Φ r I' R' K' n' → GJ g nL (CP w I' R' K' n' H0) (cu + 1) Q (pc + 3) lc (.int r :: rest)) : GJ g nL (CP w I R K nx H0) cu Q pc lc (rv r2 :: .int p1 :: rv r0 :: rest) := by
  exact gc_callSX (n := 3) (As := [rv r0, .int p1, rv r2]) C hW (met_X0_count g.2.1 hlt hw) hR (lw_SW q810 q811 q91 q812) ⟨by decide +kernel, by decide +kernel, by decide +kernel⟩ rfl rfl hrest dg kx (fun v I' R' K' n' hp => by obtain ⟨r, rfl, hp⟩ := hp; exact k r I' R' K' n' hp)
theorem tc_X0_121 {g : Gm} {w : CD} {cc : ByteArray} {nL : Nat} (C : CxH g cc nL RX0) (hW : WC w (gs g)) {I : MI} {R : MR} {K : MK} {nx : Nat} {H0 : Heap} {cu : Nat} {Q : State → Prop} {pc : Nat} {lc : List (Nat × Value)} {rest : List Value} {r0 : Nat} {p1 : Int32} {p2 : Int32} {r3 : Nat} {Φ : Int32 → MI → MR → MK → Nat → Prop} {Ψ2 : PsiC} (hw : wp_X0_room w r0 p1 p2 r3 Φ Ψ2 I R K nx) (hR : RmOk g cu 2 11 5 183) (hlt : g.2.1.stackTraces = false) (hrest : (rest.map fun v => v.category).sum ≤ 8) (dg : decode cc pc = .ok (.invokestatic 121, 3)) (kx : EscC g w nL H0 (cu + 2) Q pc lc rest Ψ2) (k : ∀ (r : Int32) I' R' K' n', Φ r I' R' K' n' → GJ g nL (CP w I' R' K' n' H0) (cu + 2) Q (pc + 3) lc (.int r :: rest)) : GJ g nL (CP w I R K nx H0) cu Q pc lc (rv r3 :: .int p2 :: .int p1 :: rv r0 :: rest) := by
  exact gc_callSX (n := 4) (As := [rv r0, .int p1, .int p2, rv r3]) C hW (met_X0_room g.2.1 hlt hw) hR (lw_SW q837 q838 q91 q839) ⟨by decide +kernel, by decide +kernel, by decide +kernel⟩ rfl rfl hrest dg kx (fun v I' R' K' n' hp => by obtain ⟨r, rfl, hp⟩ := hp; exact k r I' R' K' n' hp)
theorem tc_X0_125 {g : Gm} {w : CD} {cc : ByteArray} {nL : Nat} (C : CxH g cc nL RX0) (hW : WC w (gs g)) {I : MI} {R : MR} {K : MK} {nx : Nat} {H0 : Heap} {cu : Nat} {Q : State → Prop} {pc : Nat} {lc : List (Nat × Value)} {rest : List Value} {r0 : Nat} {p1 : Int32} {p2 : Int32} {r3 : Nat} {Φ : Int32 → MI → MR → MK → Nat → Prop} {Ψ2 : PsiC} (hw : wp_X0_lodger w r0 p1 p2 r3 Φ Ψ2 I R K nx) (hR : RmOk g cu 2 11 5 183) (hlt : g.2.1.stackTraces = false) (hrest : (rest.map fun v => v.category).sum ≤ 8) (dg : decode cc pc = .ok (.invokestatic 125, 3)) (kx : EscC g w nL H0 (cu + 2) Q pc lc rest Ψ2) (k : ∀ (r : Int32) I' R' K' n', Φ r I' R' K' n' → GJ g nL (CP w I' R' K' n' H0) (cu + 2) Q (pc + 3) lc (.int r :: rest)) : GJ g nL (CP w I R K nx H0) cu Q pc lc (rv r3 :: .int p2 :: .int p1 :: rv r0 :: rest) := by
  exact gc_callSX (n := 4) (As := [rv r0, .int p1, .int p2, rv r3]) C hW (met_X0_lodger g.2.1 hlt hw) hR (lw_SW q852 q853 q91 q854) ⟨by decide +kernel, by decide +kernel, by decide +kernel⟩ rfl rfl hrest dg kx (fun v I' R' K' n' hp => by obtain ⟨r, rfl, hp⟩ := hp; exact k r I' R' K' n' hp)
theorem tc_X0_128 {g : Gm} {w : CD} {cc : ByteArray} {nL : Nat} (C : CxH g cc nL RX0) (hW : WC w (gs g)) {I : MI} {R : MR} {K : MK} {nx : Nat} {H0 : Heap} {cu : Nat} {Q : State → Prop} {pc : Nat} {lc : List (Nat × Value)} {rest : List Value} {r0 : Nat} {p1 : Int32} {p2 : Int32} {p3 : Int32} {r4 : Nat} {Φ : Int32 → MI → MR → MK → Nat → Prop} {Ψ2 : PsiC} (hw : wp_X0_may w r0 p1 p2 p3 r4 Φ Ψ2 I R K nx) (hR : RmOk g cu 4 11 6 185) (hlt : g.2.1.stackTraces = false) (hrest : (rest.map fun v => v.category).sum ≤ 8) (dg : decode cc pc = .ok (.invokestatic 128, 3)) (kx : EscC g w nL H0 (cu + 4) Q pc lc rest Ψ2) (k : ∀ (r : Int32) I' R' K' n', Φ r I' R' K' n' → GJ g nL (CP w I' R' K' n' H0) (cu + 4) Q (pc + 3) lc (.int r :: rest)) : GJ g nL (CP w I R K nx H0) cu Q pc lc (rv r4 :: .int p3 :: .int p2 :: .int p1 :: rv r0 :: rest) := by
  exact gc_callSX (n := 5) (As := [rv r0, .int p1, .int p2, .int p3, rv r4]) C hW (met_X0_may g.2.1 hlt hw) hR (lw_SW q863 q864 q91 q865) ⟨by decide +kernel, by decide +kernel, by decide +kernel⟩ rfl rfl hrest dg kx (fun v I' R' K' n' hp => by obtain ⟨r, rfl, hp⟩ := hp; exact k r I' R' K' n' hp)
theorem tc_X0_132 {g : Gm} {w : CD} {cc : ByteArray} {nL : Nat} (C : CxH g cc nL RX0) (hW : WC w (gs g)) {I : MI} {R : MR} {K : MK} {nx : Nat} {H0 : Heap} {cu : Nat} {Q : State → Prop} {pc : Nat} {lc : List (Nat × Value)} {rest : List Value} {r0 : Nat} {p1 : Int32} {p2 : Int32} {r3 : Nat} {Φ : Int32 → MI → MR → MK → Nat → Prop} {Ψ2 : PsiC} (hw : wp_X0_says w r0 p1 p2 r3 Φ Ψ2 I R K nx) (hR : RmOk g cu 2 11 5 183) (hlt : g.2.1.stackTraces = false) (hrest : (rest.map fun v => v.category).sum ≤ 8) (dg : decode cc pc = .ok (.invokestatic 132, 3)) (kx : EscC g w nL H0 (cu + 2) Q pc lc rest Ψ2) (k : ∀ (r : Int32) I' R' K' n', Φ r I' R' K' n' → GJ g nL (CP w I' R' K' n' H0) (cu + 2) Q (pc + 3) lc (.int r :: rest)) : GJ g nL (CP w I R K nx H0) cu Q pc lc (rv r3 :: .int p2 :: .int p1 :: rv r0 :: rest) := by
  exact gc_callSX (n := 4) (As := [rv r0, .int p1, .int p2, rv r3]) C hW (met_X0_says g.2.1 hlt hw) hR (lw_SW q873 q874 q91 q875) ⟨by decide +kernel, by decide +kernel, by decide +kernel⟩ rfl rfl hrest dg kx (fun v I' R' K' n' hp => by obtain ⟨r, rfl, hp⟩ := hp; exact k r I' R' K' n' hp)
theorem tc_X0_135 {g : Gm} {w : CD} {cc : ByteArray} {nL : Nat} (C : CxH g cc nL RX0) (hW : WC w (gs g)) {I : MI} {R : MR} {K : MK} {nx : Nat} {H0 : Heap} {cu : Nat} {Q : State → Prop} {pc : Nat} {lc : List (Nat × Value)} {rest : List Value} {r0 : Nat} {p1 : Int32} {p2 : Int32} {p3 : Int32} {r4 : Nat} {Φ : Int32 → MI → MR → MK → Nat → Prop} {Ψ2 : PsiC} (hw : wp_X0_lend w r0 p1 p2 p3 r4 Φ Ψ2 I R K nx) (hR : RmOk g cu 4 11 6 194) (hlt : g.2.1.stackTraces = false) (hrest : (rest.map fun v => v.category).sum ≤ 8) (dg : decode cc pc = .ok (.invokestatic 135, 3)) (kx : EscC g w nL H0 (cu + 4) Q pc lc rest Ψ2) (k : ∀ (r : Int32) I' R' K' n', Φ r I' R' K' n' → GJ g nL (CP w I' R' K' n' H0) (cu + 4) Q (pc + 3) lc (.int r :: rest)) : GJ g nL (CP w I R K nx H0) cu Q pc lc (rv r4 :: .int p3 :: .int p2 :: .int p1 :: rv r0 :: rest) := by
  exact gc_callSX (n := 5) (As := [rv r0, .int p1, .int p2, .int p3, rv r4]) C hW (met_X0_lend g.2.1 hlt hw) hR (lw_SW q881 q882 q91 q883) ⟨by decide +kernel, by decide +kernel, by decide +kernel⟩ rfl rfl hrest dg kx (fun v I' R' K' n' hp => by obtain ⟨r, rfl, hp⟩ := hp; exact k r I' R' K' n' hp)
theorem tc_X0_138 {g : Gm} {w : CD} {cc : ByteArray} {nL : Nat} (C : CxH g cc nL RX0) (hW : WC w (gs g)) {I : MI} {R : MR} {K : MK} {nx : Nat} {H0 : Heap} {cu : Nat} {Q : State → Prop} {pc : Nat} {lc : List (Nat × Value)} {rest : List Value} {r0 : Nat} {Φ : Int32 → MI → MR → MK → Nat → Prop} {Ψ2 : PsiC} (hr : (K r0).1 = 1) (hw : wp_X1_back w r0 Φ Ψ2 I R K nx) (hR : RmOk g cu 0 3 1 86) (hlt : g.2.1.stackTraces = false) (hrest : (rest.map fun v => v.category).sum ≤ 8) (dg : decode cc pc = .ok (.invokevirtual 138, 3)) (kx : EscC g w nL H0 (cu + 0) Q pc lc rest Ψ2) (k : ∀ (r : Int32) I' R' K' n', Φ r I' R' K' n' → GJ g nL (CP w I' R' K' n' H0) (cu + 0) Q (pc + 3) lc (.int r :: rest)) : GJ g nL (CP w I R K nx H0) cu Q pc lc (rv r0 :: rest) := by
  intro H locs ls hP hl
  obtain ⟨a, rfl⟩ := repC_succ (r := r0) hP.1 (by rw [hr]; decide)
  exact gc_callV (n := 0) (As := []) C hW (met_X1_back g.2.1 hlt hw) hR (lw_V q273 q274 q275 q92 q276) ⟨rfl, by decide +kernel, by decide +kernel, by decide +kernel⟩ rfl (fun H hP => gc_recv hW.1 hP hr (c := 0) rfl) rfl hrest dg kx (fun v I' R' K' n' hp => by obtain ⟨r, rfl, hp⟩ := hp; exact k r I' R' K' n' hp) H locs ls hP hl
theorem tc_X0_142 {g : Gm} {w : CD} {cc : ByteArray} {nL : Nat} (C : CxH g cc nL RX0) (hW : WC w (gs g)) {I : MI} {R : MR} {K : MK} {nx : Nat} {H0 : Heap} {cu : Nat} {Q : State → Prop} {pc : Nat} {lc : List (Nat × Value)} {rest : List Value} {r0 : Nat} {p1 : Int32} {Φ : MI → MR → MK → Nat → Prop} {Ψ2 : PsiC} (hr : (K r0).1 = 1) (hw : wp_X1_draw w r0 p1 Φ Ψ2 I R K nx 0) (hR : RmOk g cu 150 4 7 85) (hlt : g.2.1.stackTraces = false) (hrest : (rest.map fun v => v.category).sum ≤ 8) (dg : decode cc pc = .ok (.invokevirtual 142, 3)) (kx : EscC g w nL H0 (cu + 150) Q pc lc rest Ψ2) (k : ∀ I' R' K' n', Φ I' R' K' n' → GJ g nL (CP w I' R' K' n' H0) (cu + 150) Q (pc + 3) lc (rest)) : GJ g nL (CP w I R K nx H0) cu Q pc lc (.int p1 :: rv r0 :: rest) := by
  intro H locs ls hP hl
  obtain ⟨a, rfl⟩ := repC_succ (r := r0) hP.1 (by rw [hr]; decide)
  exact gc_callV (n := 1) (As := [.int p1]) C hW (met_X1_draw g.2.1 hlt hw) hR (lw_V q318 q319 q320 q92 q321) ⟨rfl, by decide +kernel, by decide +kernel, by decide +kernel⟩ rfl (fun H hP => gc_recv hW.1 hP hr (c := 0) rfl) rfl hrest dg kx (fun v I' R' K' n' hp => by obtain ⟨rfl, hp⟩ := hp; exact k I' R' K' n' hp) H locs ls hP hl
theorem tc_X0_147 {g : Gm} {w : CD} {cc : ByteArray} {nL : Nat} (C : CxH g cc nL RX0) (hW : WC w (gs g)) {I : MI} {R : MR} {K : MK} {nx : Nat} {H0 : Heap} {cu : Nat} {Q : State → Prop} {pc : Nat} {lc : List (Nat × Value)} {rest : List Value} {r0 : Nat} {p1 : Int32} {p2 : Int32} {r3 : Nat} {Φ : Int32 → MI → MR → MK → Nat → Prop} {Ψ2 : PsiC} (hw : wp_X0_does w r0 p1 p2 r3 Φ Ψ2 I R K nx) (hR : RmOk g cu 2 11 5 183) (hlt : g.2.1.stackTraces = false) (hrest : (rest.map fun v => v.category).sum ≤ 8) (dg : decode cc pc = .ok (.invokestatic 147, 3)) (kx : EscC g w nL H0 (cu + 2) Q pc lc rest Ψ2) (k : ∀ (r : Int32) I' R' K' n', Φ r I' R' K' n' → GJ g nL (CP w I' R' K' n' H0) (cu + 2) Q (pc + 3) lc (.int r :: rest)) : GJ g nL (CP w I R K nx H0) cu Q pc lc (rv r3 :: .int p2 :: .int p1 :: rv r0 :: rest) := by
  exact gc_callSX (n := 4) (As := [rv r0, .int p1, .int p2, rv r3]) C hW (met_X0_does g.2.1 hlt hw) hR (lw_SW q908 q909 q91 q910) ⟨by decide +kernel, by decide +kernel, by decide +kernel⟩ rfl rfl hrest dg kx (fun v I' R' K' n' hp => by obtain ⟨r, rfl, hp⟩ := hp; exact k r I' R' K' n' hp)
theorem tc_X0_150 {g : Gm} {w : CD} {cc : ByteArray} {nL : Nat} (C : CxH g cc nL RX0) (hW : WC w (gs g)) {I : MI} {R : MR} {K : MK} {nx : Nat} {H0 : Heap} {cu : Nat} {Q : State → Prop} {pc : Nat} {lc : List (Nat × Value)} {rest : List Value} {r0 : Nat} {p1 : Int32} {p2 : Int32} {r3 : Nat} {Φ : Int32 → MI → MR → MK → Nat → Prop} {Ψ2 : PsiC} (hw : wp_X0_sign w r0 p1 p2 r3 Φ Ψ2 I R K nx) (hR : RmOk g cu 2 11 5 198) (hlt : g.2.1.stackTraces = false) (hrest : (rest.map fun v => v.category).sum ≤ 8) (dg : decode cc pc = .ok (.invokestatic 150, 3)) (kx : EscC g w nL H0 (cu + 2) Q pc lc rest Ψ2) (k : ∀ (r : Int32) I' R' K' n', Φ r I' R' K' n' → GJ g nL (CP w I' R' K' n' H0) (cu + 2) Q (pc + 3) lc (.int r :: rest)) : GJ g nL (CP w I R K nx H0) cu Q pc lc (rv r3 :: .int p2 :: .int p1 :: rv r0 :: rest) := by
  exact gc_callSX (n := 4) (As := [rv r0, .int p1, .int p2, rv r3]) C hW (met_X0_sign g.2.1 hlt hw) hR (lw_SW q915 q916 q91 q917) ⟨by decide +kernel, by decide +kernel, by decide +kernel⟩ rfl rfl hrest dg kx (fun v I' R' K' n' hp => by obtain ⟨r, rfl, hp⟩ := hp; exact k r I' R' K' n' hp)
theorem tc_X0_153 {g : Gm} {w : CD} {cc : ByteArray} {nL : Nat} (C : CxH g cc nL RX0) (hW : WC w (gs g)) {I : MI} {R : MR} {K : MK} {nx : Nat} {H0 : Heap} {cu : Nat} {Q : State → Prop} {pc : Nat} {lc : List (Nat × Value)} {rest : List Value} {r0 : Nat} {p1 : Int32} {p2 : Int32} {p3 : Int32} {r4 : Nat} {Φ : Int32 → MI → MR → MK → Nat → Prop} {Ψ2 : PsiC} (hw : wp_X0_look w r0 p1 p2 p3 r4 Φ Ψ2 I R K nx) (hR : RmOk g cu 3 11 6 185) (hlt : g.2.1.stackTraces = false) (hrest : (rest.map fun v => v.category).sum ≤ 8) (dg : decode cc pc = .ok (.invokestatic 153, 3)) (kx : EscC g w nL H0 (cu + 3) Q pc lc rest Ψ2) (k : ∀ (r : Int32) I' R' K' n', Φ r I' R' K' n' → GJ g nL (CP w I' R' K' n' H0) (cu + 3) Q (pc + 3) lc (.int r :: rest)) : GJ g nL (CP w I R K nx H0) cu Q pc lc (rv r4 :: .int p3 :: .int p2 :: .int p1 :: rv r0 :: rest) := by
  exact gc_callSX (n := 5) (As := [rv r0, .int p1, .int p2, .int p3, rv r4]) C hW (met_X0_look g.2.1 hlt hw) hR (lw_SW q926 q927 q91 q928) ⟨by decide +kernel, by decide +kernel, by decide +kernel⟩ rfl rfl hrest dg kx (fun v I' R' K' n' hp => by obtain ⟨r, rfl, hp⟩ := hp; exact k r I' R' K' n' hp)
theorem tc_X0_156 {g : Gm} {w : CD} {cc : ByteArray} {nL : Nat} (C : CxH g cc nL RX0) (hW : WC w (gs g)) {I : MI} {R : MR} {K : MK} {nx : Nat} {H0 : Heap} {cu : Nat} {Q : State → Prop} {pc : Nat} {lc : List (Nat × Value)} {rest : List Value} {r0 : Nat} {p1 : Int32} {p2 : Int32} {r3 : Nat} {Φ : Int32 → MI → MR → MK → Nat → Prop} {Ψ2 : PsiC} (hw : wp_X0_theft w r0 p1 p2 r3 Φ Ψ2 I R K nx) (hR : RmOk g cu 2 11 5 200) (hlt : g.2.1.stackTraces = false) (hrest : (rest.map fun v => v.category).sum ≤ 8) (dg : decode cc pc = .ok (.invokestatic 156, 3)) (kx : EscC g w nL H0 (cu + 2) Q pc lc rest Ψ2) (k : ∀ (r : Int32) I' R' K' n', Φ r I' R' K' n' → GJ g nL (CP w I' R' K' n' H0) (cu + 2) Q (pc + 3) lc (.int r :: rest)) : GJ g nL (CP w I R K nx H0) cu Q pc lc (rv r3 :: .int p2 :: .int p1 :: rv r0 :: rest) := by
  exact gc_callSX (n := 4) (As := [rv r0, .int p1, .int p2, rv r3]) C hW (met_X0_theft g.2.1 hlt hw) hR (lw_SW q933 q934 q91 q935) ⟨by decide +kernel, by decide +kernel, by decide +kernel⟩ rfl rfl hrest dg kx (fun v I' R' K' n' hp => by obtain ⟨r, rfl, hp⟩ := hp; exact k r I' R' K' n' hp)
theorem tc_X0_159 {g : Gm} {w : CD} {cc : ByteArray} {nL : Nat} (C : CxH g cc nL RX0) (hW : WC w (gs g)) {I : MI} {R : MR} {K : MK} {nx : Nat} {H0 : Heap} {cu : Nat} {Q : State → Prop} {pc : Nat} {lc : List (Nat × Value)} {rest : List Value} {r0 : Nat} {p1 : Int32} {p2 : Int32} {p3 : Int32} {r4 : Nat} {Φ : Int32 → MI → MR → MK → Nat → Prop} {Ψ2 : PsiC} (hw : wp_X0_see w r0 p1 p2 p3 r4 Φ Ψ2 I R K nx) (hR : RmOk g cu 2 11 6 184) (hlt : g.2.1.stackTraces = false) (hrest : (rest.map fun v => v.category).sum ≤ 8) (dg : decode cc pc = .ok (.invokestatic 159, 3)) (kx : EscC g w nL H0 (cu + 2) Q pc lc rest Ψ2) (k : ∀ (r : Int32) I' R' K' n', Φ r I' R' K' n' → GJ g nL (CP w I' R' K' n' H0) (cu + 2) Q (pc + 3) lc (.int r :: rest)) : GJ g nL (CP w I R K nx H0) cu Q pc lc (rv r4 :: .int p3 :: .int p2 :: .int p1 :: rv r0 :: rest) := by
  exact gc_callSX (n := 5) (As := [rv r0, .int p1, .int p2, .int p3, rv r4]) C hW (met_X0_see g.2.1 hlt hw) hR (lw_SW q940 q941 q91 q942) ⟨by decide +kernel, by decide +kernel, by decide +kernel⟩ rfl rfl hrest dg kx (fun v I' R' K' n' hp => by obtain ⟨r, rfl, hp⟩ := hp; exact k r I' R' K' n' hp)
theorem tc_X0_162 {g : Gm} {w : CD} {cc : ByteArray} {nL : Nat} (C : CxH g cc nL RX0) (hW : WC w (gs g)) {I : MI} {R : MR} {K : MK} {nx : Nat} {H0 : Heap} {cu : Nat} {Q : State → Prop} {pc : Nat} {lc : List (Nat × Value)} {rest : List Value} {r0 : Nat} {Φ : Int32 → MI → MR → MK → Nat → Prop} {Ψ2 : PsiC} (hr : (K r0).1 = 1) (hw : wp_X1_forget w r0 Φ Ψ2 I R K nx) (hR : RmOk g cu 0 1 2 20) (hlt : g.2.1.stackTraces = false) (hrest : (rest.map fun v => v.category).sum ≤ 8) (dg : decode cc pc = .ok (.invokevirtual 162, 3)) (kx : EscC g w nL H0 (cu + 0) Q pc lc rest Ψ2) (k : ∀ (r : Int32) I' R' K' n', Φ r I' R' K' n' → GJ g nL (CP w I' R' K' n' H0) (cu + 0) Q (pc + 3) lc (.int r :: rest)) : GJ g nL (CP w I R K nx H0) cu Q pc lc (rv r0 :: rest) := by
  intro H locs ls hP hl
  obtain ⟨a, rfl⟩ := repC_succ (r := r0) hP.1 (by rw [hr]; decide)
  exact gc_callV (n := 0) (As := []) C hW (met_X1_forget g.2.1 hlt hw) hR (lw_V q358 q359 q360 q92 q361) ⟨rfl, by decide +kernel, by decide +kernel, by decide +kernel⟩ rfl (fun H hP => gc_recv hW.1 hP hr (c := 0) rfl) rfl hrest dg kx (fun v I' R' K' n' hp => by obtain ⟨r, rfl, hp⟩ := hp; exact k r I' R' K' n' hp) H locs ls hP hl
theorem tc_X0_166 {g : Gm} {w : CD} {cc : ByteArray} {nL : Nat} (C : CxH g cc nL RX0) (hW : WC w (gs g)) {I : MI} {R : MR} {K : MK} {nx : Nat} {H0 : Heap} {cu : Nat} {Q : State → Prop} {pc : Nat} {lc : List (Nat × Value)} {rest : List Value} {r0 : Nat} {Φ : Int32 → MI → MR → MK → Nat → Prop} {Ψ2 : PsiC} (hr : (K r0).1 = 1) (hw : wp_X1_cases w r0 Φ Ψ2 I R K nx) (hR : RmOk g cu 25 9 1 204) (hlt : g.2.1.stackTraces = false) (hrest : (rest.map fun v => v.category).sum ≤ 8) (dg : decode cc pc = .ok (.invokevirtual 166, 3)) (kx : EscC g w nL H0 (cu + 25) Q pc lc rest Ψ2) (k : ∀ (r : Int32) I' R' K' n', Φ r I' R' K' n' → GJ g nL (CP w I' R' K' n' H0) (cu + 25) Q (pc + 3) lc (.int r :: rest)) : GJ g nL (CP w I R K nx H0) cu Q pc lc (rv r0 :: rest) := by
  intro H locs ls hP hl
  obtain ⟨a, rfl⟩ := repC_succ (r := r0) hP.1 (by rw [hr]; decide)
  exact gc_callV (n := 0) (As := []) C hW (met_X1_cases g.2.1 hlt hw) hR (lw_V q363 q364 q365 q92 q366) ⟨rfl, by decide +kernel, by decide +kernel, by decide +kernel⟩ rfl (fun H hP => gc_recv hW.1 hP hr (c := 0) rfl) rfl hrest dg kx (fun v I' R' K' n' hp => by obtain ⟨r, rfl, hp⟩ := hp; exact k r I' R' K' n' hp) H locs ls hP hl
theorem tc_X0_170 {g : Gm} {w : CD} {cc : ByteArray} {nL : Nat} (C : CxH g cc nL RX0) (hW : WC w (gs g)) {I : MI} {R : MR} {K : MK} {nx : Nat} {H0 : Heap} {cu : Nat} {Q : State → Prop} {pc : Nat} {lc : List (Nat × Value)} {rest : List Value} {r0 : Nat} {p1 : Int32} {p2 : Int32} {r3 : Nat} {Φ : Int32 → MI → MR → MK → Nat → Prop} {Ψ2 : PsiC} (hw : wp_X0_inCase w r0 p1 p2 r3 Φ Ψ2 I R K nx) (hR : RmOk g cu 27 11 5 227) (hlt : g.2.1.stackTraces = false) (hrest : (rest.map fun v => v.category).sum ≤ 8) (dg : decode cc pc = .ok (.invokestatic 170, 3)) (kx : EscC g w nL H0 (cu + 27) Q pc lc rest Ψ2) (k : ∀ (r : Int32) I' R' K' n', Φ r I' R' K' n' → GJ g nL (CP w I' R' K' n' H0) (cu + 27) Q (pc + 3) lc (.int r :: rest)) : GJ g nL (CP w I R K nx H0) cu Q pc lc (rv r3 :: .int p2 :: .int p1 :: rv r0 :: rest) := by
  exact gc_callSX (n := 4) (As := [rv r0, .int p1, .int p2, rv r3]) C hW (met_X0_inCase g.2.1 hlt hw) hR (lw_SW q947 q948 q91 q949) ⟨by decide +kernel, by decide +kernel, by decide +kernel⟩ rfl rfl hrest dg kx (fun v I' R' K' n' hp => by obtain ⟨r, rfl, hp⟩ := hp; exact k r I' R' K' n' hp)
theorem tc_X0_173 {g : Gm} {w : CD} {cc : ByteArray} {nL : Nat} (C : CxH g cc nL RX0) (hW : WC w (gs g)) {I : MI} {R : MR} {K : MK} {nx : Nat} {H0 : Heap} {cu : Nat} {Q : State → Prop} {pc : Nat} {lc : List (Nat × Value)} {rest : List Value} {r0 : Nat} {p1 : Int32} {r2 : Nat} {Φ : Int32 → MI → MR → MK → Nat → Prop} {Ψ2 : PsiC} (hw : wp_X0_sure w r0 p1 r2 Φ Ψ2 I R K nx) (hR : RmOk g cu 26 10 4 233) (hlt : g.2.1.stackTraces = false) (hrest : (rest.map fun v => v.category).sum ≤ 8) (dg : decode cc pc = .ok (.invokestatic 173, 3)) (kx : EscC g w nL H0 (cu + 26) Q pc lc rest Ψ2) (k : ∀ (r : Int32) I' R' K' n', Φ r I' R' K' n' → GJ g nL (CP w I' R' K' n' H0) (cu + 26) Q (pc + 3) lc (.int r :: rest)) : GJ g nL (CP w I R K nx H0) cu Q pc lc (rv r2 :: .int p1 :: rv r0 :: rest) := by
  exact gc_callSX (n := 3) (As := [rv r0, .int p1, rv r2]) C hW (met_X0_sure g.2.1 hlt hw) hR (lw_SW q958 q959 q91 q960) ⟨by decide +kernel, by decide +kernel, by decide +kernel⟩ rfl rfl hrest dg kx (fun v I' R' K' n' hp => by obtain ⟨r, rfl, hp⟩ := hp; exact k r I' R' K' n' hp)
theorem tc_X0_176 {g : Gm} {w : CD} {cc : ByteArray} {nL : Nat} (C : CxH g cc nL RX0) (hW : WC w (gs g)) {I : MI} {R : MR} {K : MK} {nx : Nat} {H0 : Heap} {cu : Nat} {Q : State → Prop} {pc : Nat} {lc : List (Nat × Value)} {rest : List Value} {r0 : Nat} {p1 : Int32} {r2 : Nat} {Φ : Int32 → MI → MR → MK → Nat → Prop} {Ψ2 : PsiC} (hw : wp_X0_where w r0 p1 r2 Φ Ψ2 I R K nx) (hR : RmOk g cu 26 11 4 229) (hlt : g.2.1.stackTraces = false) (hrest : (rest.map fun v => v.category).sum ≤ 8) (dg : decode cc pc = .ok (.invokestatic 176, 3)) (kx : EscC g w nL H0 (cu + 26) Q pc lc rest Ψ2) (k : ∀ (r : Int32) I' R' K' n', Φ r I' R' K' n' → GJ g nL (CP w I' R' K' n' H0) (cu + 26) Q (pc + 3) lc (.int r :: rest)) : GJ g nL (CP w I R K nx H0) cu Q pc lc (rv r2 :: .int p1 :: rv r0 :: rest) := by
  exact gc_callSX (n := 3) (As := [rv r0, .int p1, rv r2]) C hW (met_X0_where g.2.1 hlt hw) hR (lw_SW q977 q978 q91 q979) ⟨by decide +kernel, by decide +kernel, by decide +kernel⟩ rfl rfl hrest dg kx (fun v I' R' K' n' hp => by obtain ⟨r, rfl, hp⟩ := hp; exact k r I' R' K' n' hp)
theorem tc_X0_179 {g : Gm} {w : CD} {cc : ByteArray} {nL : Nat} (C : CxH g cc nL RX0) (hW : WC w (gs g)) {I : MI} {R : MR} {K : MK} {nx : Nat} {H0 : Heap} {cu : Nat} {Q : State → Prop} {pc : Nat} {lc : List (Nat × Value)} {rest : List Value} {r0 : Nat} {p1 : Int32} {p2 : Int32} {p3 : Int32} {r4 : Nat} {Φ : Int32 → MI → MR → MK → Nat → Prop} {Ψ2 : PsiC} (hw : wp_X0_misled w r0 p1 p2 p3 r4 Φ Ψ2 I R K nx) (hR : RmOk g cu 103 11 6 258) (hlt : g.2.1.stackTraces = false) (hrest : (rest.map fun v => v.category).sum ≤ 8) (dg : decode cc pc = .ok (.invokestatic 179, 3)) (kx : EscC g w nL H0 (cu + 103) Q pc lc rest Ψ2) (k : ∀ (r : Int32) I' R' K' n', Φ r I' R' K' n' → GJ g nL (CP w I' R' K' n' H0) (cu + 103) Q (pc + 3) lc (.int r :: rest)) : GJ g nL (CP w I R K nx H0) cu Q pc lc (rv r4 :: .int p3 :: .int p2 :: .int p1 :: rv r0 :: rest) := by
  exact gc_callSX (n := 5) (As := [rv r0, .int p1, .int p2, .int p3, rv r4]) C hW (met_X0_misled g.2.1 hlt hw) hR (lw_SW q985 q986 q91 q987) ⟨by decide +kernel, by decide +kernel, by decide +kernel⟩ rfl rfl hrest dg kx (fun v I' R' K' n' hp => by obtain ⟨r, rfl, hp⟩ := hp; exact k r I' R' K' n' hp)
theorem tc_X0_182 {g : Gm} {w : CD} {cc : ByteArray} {nL : Nat} (C : CxH g cc nL RX0) (hW : WC w (gs g)) {I : MI} {R : MR} {K : MK} {nx : Nat} {H0 : Heap} {cu : Nat} {Q : State → Prop} {pc : Nat} {lc : List (Nat × Value)} {rest : List Value} {r0 : Nat} {p1 : Int32} {p2 : Int32} {r3 : Nat} {Φ : Int32 → MI → MR → MK → Nat → Prop} {Ψ2 : PsiC} (hw : wp_X0_chance w r0 p1 p2 r3 Φ Ψ2 I R K nx) (hR : RmOk g cu 3 11 5 201) (hlt : g.2.1.stackTraces = false) (hrest : (rest.map fun v => v.category).sum ≤ 8) (dg : decode cc pc = .ok (.invokestatic 182, 3)) (kx : EscC g w nL H0 (cu + 3) Q pc lc rest Ψ2) (k : ∀ (r : Int32) I' R' K' n', Φ r I' R' K' n' → GJ g nL (CP w I' R' K' n' H0) (cu + 3) Q (pc + 3) lc (.int r :: rest)) : GJ g nL (CP w I R K nx H0) cu Q pc lc (rv r3 :: .int p2 :: .int p1 :: rv r0 :: rest) := by
  exact gc_callSX (n := 4) (As := [rv r0, .int p1, .int p2, rv r3]) C hW (met_X0_chance g.2.1 hlt hw) hR (lw_SW q1004 q1005 q91 q1006) ⟨by decide +kernel, by decide +kernel, by decide +kernel⟩ rfl rfl hrest dg kx (fun v I' R' K' n' hp => by obtain ⟨r, rfl, hp⟩ := hp; exact k r I' R' K' n' hp)
theorem tc_X0_185 {g : Gm} {w : CD} {cc : ByteArray} {nL : Nat} (C : CxH g cc nL RX0) (hW : WC w (gs g)) {I : MI} {R : MR} {K : MK} {nx : Nat} {H0 : Heap} {cu : Nat} {Q : State → Prop} {pc : Nat} {lc : List (Nat × Value)} {rest : List Value} {r0 : Nat} {p1 : Int32} {p2 : Int32} {p3 : Int32} {r4 : Nat} {Φ : Int32 → MI → MR → MK → Nat → Prop} {Ψ2 : PsiC} (hw : wp_X0_round w r0 p1 p2 p3 r4 Φ Ψ2 I R K nx) (hR : RmOk g cu 70 12 6 298) (hlt : g.2.1.stackTraces = false) (hrest : (rest.map fun v => v.category).sum ≤ 8) (dg : decode cc pc = .ok (.invokestatic 185, 3)) (kx : EscC g w nL H0 (cu + 70) Q pc lc rest Ψ2) (k : ∀ (r : Int32) I' R' K' n', Φ r I' R' K' n' → GJ g nL (CP w I' R' K' n' H0) (cu + 70) Q (pc + 3) lc (.int r :: rest)) : GJ g nL (CP w I R K nx H0) cu Q pc lc (rv r4 :: .int p3 :: .int p2 :: .int p1 :: rv r0 :: rest) := by
  exact gc_callSX (n := 5) (As := [rv r0, .int p1, .int p2, .int p3, rv r4]) C hW (met_X0_round g.2.1 hlt hw) hR (lw_SW q1015 q1016 q91 q1017) ⟨by decide +kernel, by decide +kernel, by decide +kernel⟩ rfl rfl hrest dg kx (fun v I' R' K' n' hp => by obtain ⟨r, rfl, hp⟩ := hp; exact k r I' R' K' n' hp)
theorem tc_X0_188 {g : Gm} {w : CD} {cc : ByteArray} {nL : Nat} (C : CxH g cc nL RX0) (hW : WC w (gs g)) {I : MI} {R : MR} {K : MK} {nx : Nat} {H0 : Heap} {cu : Nat} {Q : State → Prop} {pc : Nat} {lc : List (Nat × Value)} {rest : List Value} {r0 : Nat} {p1 : Int32} {p2 : Int32} {r3 : Nat} {Φ : Int32 → MI → MR → MK → Nat → Prop} {Ψ2 : PsiC} (hw : wp_X0_path w r0 p1 p2 r3 Φ Ψ2 I R K nx) (hR : RmOk g cu 2 11 5 182) (hlt : g.2.1.stackTraces = false) (hrest : (rest.map fun v => v.category).sum ≤ 8) (dg : decode cc pc = .ok (.invokestatic 188, 3)) (kx : EscC g w nL H0 (cu + 2) Q pc lc rest Ψ2) (k : ∀ (r : Int32) I' R' K' n', Φ r I' R' K' n' → GJ g nL (CP w I' R' K' n' H0) (cu + 2) Q (pc + 3) lc (.int r :: rest)) : GJ g nL (CP w I R K nx H0) cu Q pc lc (rv r3 :: .int p2 :: .int p1 :: rv r0 :: rest) := by
  exact gc_callSX (n := 4) (As := [rv r0, .int p1, .int p2, rv r3]) C hW (met_X0_path g.2.1 hlt hw) hR (lw_SW q1065 q1066 q91 q1067) ⟨by decide +kernel, by decide +kernel, by decide +kernel⟩ rfl rfl hrest dg kx (fun v I' R' K' n' hp => by obtain ⟨r, rfl, hp⟩ := hp; exact k r I' R' K' n' hp)
theorem tc_X0_191 {g : Gm} {w : CD} {cc : ByteArray} {nL : Nat} (C : CxH g cc nL RX0) (hW : WC w (gs g)) {I : MI} {R : MR} {K : MK} {nx : Nat} {H0 : Heap} {cu : Nat} {Q : State → Prop} {pc : Nat} {lc : List (Nat × Value)} {rest : List Value} {r0 : Nat} {p1 : Int32} {p2 : Int32} {p3 : Int32} {r4 : Nat} {Φ : Int32 → MI → MR → MK → Nat → Prop} {Ψ2 : PsiC} (hw : wp_X0_rests w r0 p1 p2 p3 r4 Φ Ψ2 I R K nx) (hR : RmOk g cu 24 11 6 231) (hlt : g.2.1.stackTraces = false) (hrest : (rest.map fun v => v.category).sum ≤ 8) (dg : decode cc pc = .ok (.invokestatic 191, 3)) (kx : EscC g w nL H0 (cu + 24) Q pc lc rest Ψ2) (k : ∀ (r : Int32) I' R' K' n', Φ r I' R' K' n' → GJ g nL (CP w I' R' K' n' H0) (cu + 24) Q (pc + 3) lc (.int r :: rest)) : GJ g nL (CP w I R K nx H0) cu Q pc lc (rv r4 :: .int p3 :: .int p2 :: .int p1 :: rv r0 :: rest) := by
  exact gc_callSX (n := 5) (As := [rv r0, .int p1, .int p2, .int p3, rv r4]) C hW (met_X0_rests g.2.1 hlt hw) hR (lw_SW q1072 q1073 q91 q1074) ⟨by decide +kernel, by decide +kernel, by decide +kernel⟩ rfl rfl hrest dg kx (fun v I' R' K' n' hp => by obtain ⟨r, rfl, hp⟩ := hp; exact k r I' R' K' n' hp)
theorem tc_X0_194 {g : Gm} {w : CD} {cc : ByteArray} {nL : Nat} (C : CxH g cc nL RX0) (hW : WC w (gs g)) {I : MI} {R : MR} {K : MK} {nx : Nat} {H0 : Heap} {cu : Nat} {Q : State → Prop} {pc : Nat} {lc : List (Nat × Value)} {rest : List Value} {r0 : Nat} {p1 : Int32} {p2 : Int32} {r3 : Nat} {Φ : Int32 → MI → MR → MK → Nat → Prop} {Ψ2 : PsiC} (hw : wp_X0_fewest w r0 p1 p2 r3 Φ Ψ2 I R K nx) (hR : RmOk g cu 4 16 5 361) (hlt : g.2.1.stackTraces = false) (hrest : (rest.map fun v => v.category).sum ≤ 8) (dg : decode cc pc = .ok (.invokestatic 194, 3)) (kx : EscC g w nL H0 (cu + 4) Q pc lc rest Ψ2) (k : ∀ (r : Int32) I' R' K' n', Φ r I' R' K' n' → GJ g nL (CP w I' R' K' n' H0) (cu + 4) Q (pc + 3) lc (.int r :: rest)) : GJ g nL (CP w I R K nx H0) cu Q pc lc (rv r3 :: .int p2 :: .int p1 :: rv r0 :: rest) := by
  exact gc_callSX (n := 4) (As := [rv r0, .int p1, .int p2, rv r3]) C hW (met_X0_fewest g.2.1 hlt hw) hR (lw_SW q1087 q1088 q91 q1089) ⟨by decide +kernel, by decide +kernel, by decide +kernel⟩ rfl rfl hrest dg kx (fun v I' R' K' n' hp => by obtain ⟨r, rfl, hp⟩ := hp; exact k r I' R' K' n' hp)
theorem tc_X0_197 {g : Gm} {w : CD} {cc : ByteArray} {nL : Nat} (C : CxH g cc nL RX0) (hW : WC w (gs g)) {I : MI} {R : MR} {K : MK} {nx : Nat} {H0 : Heap} {cu : Nat} {Q : State → Prop} {pc : Nat} {lc : List (Nat × Value)} {rest : List Value} {r0 : Nat} {p1 : Int32} {r2 : Nat} {Φ : Int32 → MI → MR → MK → Nat → Prop} {Ψ2 : PsiC} (hw : wp_X0_lender w r0 p1 r2 Φ Ψ2 I R K nx) (hR : RmOk g cu 2 11 4 182) (hlt : g.2.1.stackTraces = false) (hrest : (rest.map fun v => v.category).sum ≤ 8) (dg : decode cc pc = .ok (.invokestatic 197, 3)) (kx : EscC g w nL H0 (cu + 2) Q pc lc rest Ψ2) (k : ∀ (r : Int32) I' R' K' n', Φ r I' R' K' n' → GJ g nL (CP w I' R' K' n' H0) (cu + 2) Q (pc + 3) lc (.int r :: rest)) : GJ g nL (CP w I R K nx H0) cu Q pc lc (rv r2 :: .int p1 :: rv r0 :: rest) := by
  exact gc_callSX (n := 3) (As := [rv r0, .int p1, rv r2]) C hW (met_X0_lender g.2.1 hlt hw) hR (lw_SW q1142 q1143 q91 q1144) ⟨by decide +kernel, by decide +kernel, by decide +kernel⟩ rfl rfl hrest dg kx (fun v I' R' K' n' hp => by obtain ⟨r, rfl, hp⟩ := hp; exact k r I' R' K' n' hp)
theorem tc_X0_200 {g : Gm} {w : CD} {cc : ByteArray} {nL : Nat} (C : CxH g cc nL RX0) (hW : WC w (gs g)) {I : MI} {R : MR} {K : MK} {nx : Nat} {H0 : Heap} {cu : Nat} {Q : State → Prop} {pc : Nat} {lc : List (Nat × Value)} {rest : List Value} {r0 : Nat} {p1 : Int32} {p2 : Int32} {r3 : Nat} {Φ : Int32 → MI → MR → MK → Nat → Prop} {Ψ2 : PsiC} (hw : wp_X0_kinds w r0 p1 p2 r3 Φ Ψ2 I R K nx) (hR : RmOk g cu 3 10 5 164) (hlt : g.2.1.stackTraces = false) (hrest : (rest.map fun v => v.category).sum ≤ 8) (dg : decode cc pc = .ok (.invokestatic 200, 3)) (kx : EscC g w nL H0 (cu + 3) Q pc lc rest Ψ2) (k : ∀ (r : Int32) I' R' K' n', Φ r I' R' K' n' → GJ g nL (CP w I' R' K' n' H0) (cu + 3) Q (pc + 3) lc (.int r :: rest)) : GJ g nL (CP w I R K nx H0) cu Q pc lc (rv r3 :: .int p2 :: .int p1 :: rv r0 :: rest) := by
  exact gc_callSX (n := 4) (As := [rv r0, .int p1, .int p2, rv r3]) C hW (met_X0_kinds g.2.1 hlt hw) hR (lw_SW q1149 q1150 q91 q1151) ⟨by decide +kernel, by decide +kernel, by decide +kernel⟩ rfl rfl hrest dg kx (fun v I' R' K' n' hp => by obtain ⟨r, rfl, hp⟩ := hp; exact k r I' R' K' n' hp)
theorem tc_X0_203 {g : Gm} {w : CD} {cc : ByteArray} {nL : Nat} (C : CxH g cc nL RX0) (hW : WC w (gs g)) {I : MI} {R : MR} {K : MK} {nx : Nat} {H0 : Heap} {cu : Nat} {Q : State → Prop} {pc : Nat} {lc : List (Nat × Value)} {rest : List Value} {r0 : Nat} {p1 : Int32} {p2 : Int32} {r3 : Nat} {Φ : Int32 → MI → MR → MK → Nat → Prop} {Ψ2 : PsiC} (hw : wp_X0_word w r0 p1 p2 r3 Φ Ψ2 I R K nx) (hR : RmOk g cu 4 10 5 163) (hlt : g.2.1.stackTraces = false) (hrest : (rest.map fun v => v.category).sum ≤ 8) (dg : decode cc pc = .ok (.invokestatic 203, 3)) (kx : EscC g w nL H0 (cu + 4) Q pc lc rest Ψ2) (k : ∀ (r : Int32) I' R' K' n', Φ r I' R' K' n' → GJ g nL (CP w I' R' K' n' H0) (cu + 4) Q (pc + 3) lc (.int r :: rest)) : GJ g nL (CP w I R K nx H0) cu Q pc lc (rv r3 :: .int p2 :: .int p1 :: rv r0 :: rest) := by
  exact gc_callSX (n := 4) (As := [rv r0, .int p1, .int p2, rv r3]) C hW (met_X0_word g.2.1 hlt hw) hR (lw_SW q1162 q1163 q91 q1164) ⟨by decide +kernel, by decide +kernel, by decide +kernel⟩ rfl rfl hrest dg kx (fun v I' R' K' n' hp => by obtain ⟨r, rfl, hp⟩ := hp; exact k r I' R' K' n' hp)
theorem tc_X0_206 {g : Gm} {w : CD} {cc : ByteArray} {nL : Nat} (C : CxH g cc nL RX0) (hW : WC w (gs g)) {I : MI} {R : MR} {K : MK} {nx : Nat} {H0 : Heap} {cu : Nat} {Q : State → Prop} {pc : Nat} {lc : List (Nat × Value)} {rest : List Value} {r0 : Nat} {p1 : Int32} {p2 : Int32} {p3 : Int32} {r4 : Nat} {Φ : Int32 → MI → MR → MK → Nat → Prop} {Ψ2 : PsiC} (hw : wp_X0_mend w r0 p1 p2 p3 r4 Φ Ψ2 I R K nx) (hR : RmOk g cu 3 10 6 165) (hlt : g.2.1.stackTraces = false) (hrest : (rest.map fun v => v.category).sum ≤ 8) (dg : decode cc pc = .ok (.invokestatic 206, 3)) (kx : EscC g w nL H0 (cu + 3) Q pc lc rest Ψ2) (k : ∀ (r : Int32) I' R' K' n', Φ r I' R' K' n' → GJ g nL (CP w I' R' K' n' H0) (cu + 3) Q (pc + 3) lc (.int r :: rest)) : GJ g nL (CP w I R K nx H0) cu Q pc lc (rv r4 :: .int p3 :: .int p2 :: .int p1 :: rv r0 :: rest) := by
  exact gc_callSX (n := 5) (As := [rv r0, .int p1, .int p2, .int p3, rv r4]) C hW (met_X0_mend g.2.1 hlt hw) hR (lw_SW q1169 q1170 q91 q1171) ⟨by decide +kernel, by decide +kernel, by decide +kernel⟩ rfl rfl hrest dg kx (fun v I' R' K' n' hp => by obtain ⟨r, rfl, hp⟩ := hp; exact k r I' R' K' n' hp)
theorem tc_X0_209 {g : Gm} {w : CD} {cc : ByteArray} {nL : Nat} (C : CxH g cc nL RX0) (hW : WC w (gs g)) {I : MI} {R : MR} {K : MK} {nx : Nat} {H0 : Heap} {cu : Nat} {Q : State → Prop} {pc : Nat} {lc : List (Nat × Value)} {rest : List Value} {r0 : Nat} {p1 : Int32} {p2 : Int32} {p3 : Int32} {p4 : Int32} {p5 : Int32} {r6 : Nat} {Φ : Int32 → MI → MR → MK → Nat → Prop} {Ψ2 : PsiC} (hw : wp_X0_fire w r0 p1 p2 p3 p4 p5 r6 Φ Ψ2 I R K nx) (hR : RmOk g cu 5 11 8 192) (hlt : g.2.1.stackTraces = false) (hrest : (rest.map fun v => v.category).sum ≤ 8) (dg : decode cc pc = .ok (.invokestatic 209, 3)) (kx : EscC g w nL H0 (cu + 5) Q pc lc rest Ψ2) (k : ∀ (r : Int32) I' R' K' n', Φ r I' R' K' n' → GJ g nL (CP w I' R' K' n' H0) (cu + 5) Q (pc + 3) lc (.int r :: rest)) : GJ g nL (CP w I R K nx H0) cu Q pc lc (rv r6 :: .int p5 :: .int p4 :: .int p3 :: .int p2 :: .int p1 :: rv r0 :: rest) := by
  exact gc_callSX (n := 7) (As := [rv r0, .int p1, .int p2, .int p3, .int p4, .int p5, rv r6]) C hW (met_X0_fire g.2.1 hlt hw) hR (lw_SW q1176 q1177 q91 q1178) ⟨by decide +kernel, by decide +kernel, by decide +kernel⟩ rfl rfl hrest dg kx (fun v I' R' K' n' hp => by obtain ⟨r, rfl, hp⟩ := hp; exact k r I' R' K' n' hp)
theorem tc_X0_213 {g : Gm} {w : CD} {cc : ByteArray} {nL : Nat} (C : CxH g cc nL RX0) (hW : WC w (gs g)) {I : MI} {R : MR} {K : MK} {nx : Nat} {H0 : Heap} {cu : Nat} {Q : State → Prop} {pc : Nat} {lc : List (Nat × Value)} {rest : List Value} {r0 : Nat} {Φ : MI → MR → MK → Nat → Prop} {Ψ2 : PsiC} (hr : (K r0).1 = 1) (hw : wp_X1_image w r0 Φ Ψ2 I R K nx) (hR : RmOk g cu 21 5 1 126) (hlt : g.2.1.stackTraces = false) (hrest : (rest.map fun v => v.category).sum ≤ 8) (dg : decode cc pc = .ok (.invokevirtual 213, 3)) (kx : EscC g w nL H0 (cu + 21) Q pc lc rest Ψ2) (k : ∀ I' R' K' n', Φ I' R' K' n' → GJ g nL (CP w I' R' K' n' H0) (cu + 21) Q (pc + 3) lc (rest)) : GJ g nL (CP w I R K nx H0) cu Q pc lc (rv r0 :: rest) := by
  intro H locs ls hP hl
  obtain ⟨a, rfl⟩ := repC_succ (r := r0) hP.1 (by rw [hr]; decide)
  exact gc_callV (n := 0) (As := []) C hW (met_X1_image g.2.1 hlt hw) hR (lw_V q421 q422 q423 q92 q424) ⟨rfl, by decide +kernel, by decide +kernel, by decide +kernel⟩ rfl (fun H hP => gc_recv hW.1 hP hr (c := 0) rfl) rfl hrest dg kx (fun v I' R' K' n' hp => by obtain ⟨rfl, hp⟩ := hp; exact k I' R' K' n' hp) H locs ls hP hl
theorem tc_X0_217 {g : Gm} {w : CD} {cc : ByteArray} {nL : Nat} (C : CxH g cc nL RX0) (hW : WC w (gs g)) {I : MI} {R : MR} {K : MK} {nx : Nat} {H0 : Heap} {cu : Nat} {Q : State → Prop} {pc : Nat} {lc : List (Nat × Value)} {rest : List Value} {r0 : Nat} {Φ : Int32 → MI → MR → MK → Nat → Prop} {Ψ2 : PsiC} (hr : (K r0).1 = 1) (hw : wp_X1_restore w r0 Φ Ψ2 I R K nx) (hR : RmOk g cu 15 5 2 126) (hlt : g.2.1.stackTraces = false) (hrest : (rest.map fun v => v.category).sum ≤ 8) (dg : decode cc pc = .ok (.invokevirtual 217, 3)) (kx : EscC g w nL H0 (cu + 15) Q pc lc rest Ψ2) (k : ∀ (r : Int32) I' R' K' n', (r = 0 ∨ r = 1) → Φ r I' R' K' n' → GJ g nL (CP w I' R' K' n' H0) (cu + 15) Q (pc + 3) lc (.int r :: rest)) : GJ g nL (CP w I R K nx H0) cu Q pc lc (rv r0 :: rest) := by
  intro H locs ls hP hl
  obtain ⟨a, rfl⟩ := repC_succ (r := r0) hP.1 (by rw [hr]; decide)
  exact gc_callV (n := 0) (As := []) C hW (met_X1_restore g.2.1 hlt hw) hR (lw_V q482 q483 q484 q92 q485) ⟨rfl, by decide +kernel, by decide +kernel, by decide +kernel⟩ rfl (fun H hP => gc_recv hW.1 hP hr (c := 0) rfl) rfl hrest dg kx (fun v I' R' K' n' hp => by obtain ⟨r, rfl, hb, hp⟩ := hp; exact k r I' R' K' n' hb hp) H locs ls hP hl
theorem tl_X3_back {g : Gm} {w : CD} {d : TD} {xs : Nat → Int32} {L t b : Nat} (B : BdL g w d xs L t b) {J : Nat → Nat → Int32} {lw : Int64} {H0 : Heap} {Q : State → Prop} {cu pc : Nat} {lc : List (Nat × Value)} {rest : List Value} {Φ : Int32 → (Nat → Nat → Int32) → Int64 → Prop} (hw : wp_X3_back Φ J lw) (hcu : cu ≤ 229000) (hrest : (rest.map fun v => v.category).sum ≤ 8) (dg : decode code pc = .ok (.invokevirtual 141, 3)) (k : ∀ (r : Int32) J' lw', Φ r J' lw' → GJ g 8 (TP d t J' lw' H0) cu Q (pc + 3) lc (.int r :: rest)) : GJ g 8 (TP d t J lw H0) cu Q pc lc (rv (t + 1) :: rest) :=
  gl_callV (n := 0) (As := []) B (met_X3_back g.2.1 hw) (lw_V q1570 q1571 q1572 q97 q1573) ⟨rfl, by decide +kernel, by decide +kernel, by decide +kernel⟩ rfl (Nat.le_of_ble_eq_true rfl) (Nat.le_of_ble_eq_true rfl) hcu rfl hrest dg (fun v J' lw' hp => by obtain ⟨r, rfl, hp⟩ := hp; exact k r J' lw' hp)
theorem tl_X3_cases {g : Gm} {w : CD} {d : TD} {xs : Nat → Int32} {L t b : Nat} (B : BdL g w d xs L t b) {J : Nat → Nat → Int32} {lw : Int64} {H0 : Heap} {Q : State → Prop} {cu pc : Nat} {lc : List (Nat × Value)} {rest : List Value} {Φ : Int32 → (Nat → Nat → Int32) → Int64 → Prop} (hw : wp_X3_cases Φ J lw) (hcu : cu ≤ 229000) (hrest : (rest.map fun v => v.category).sum ≤ 8) (dg : decode code pc = .ok (.invokevirtual 169, 3)) (k : ∀ (r : Int32) J' lw', Φ r J' lw' → GJ g 8 (TP d t J' lw' H0) cu Q (pc + 3) lc (.int r :: rest)) : GJ g 8 (TP d t J lw H0) cu Q pc lc (rv (t + 1) :: rest) :=
  gl_callV (n := 0) (As := []) B (met_X3_cases g.2.1 hw) (lw_V q1611 q1612 q1613 q97 q1614) ⟨rfl, by decide +kernel, by decide +kernel, by decide +kernel⟩ rfl (Nat.le_of_ble_eq_true rfl) (Nat.le_of_ble_eq_true rfl) hcu rfl hrest dg (fun v J' lw' hp => by obtain ⟨r, rfl, hp⟩ := hp; exact k r J' lw' hp)
theorem tl_X3_chance {g : Gm} {w : CD} {d : TD} {xs : Nat → Int32} {L t b : Nat} (B : BdL g w d xs L t b) {J : Nat → Nat → Int32} {lw : Int64} {H0 : Heap} {Q : State → Prop} {cu pc : Nat} {lc : List (Nat × Value)} {rest : List Value} {p1 : Int32} {p2 : Int32} {Φ : Int32 → (Nat → Nat → Int32) → Int64 → Prop} (hw : wp_X3_chance p1 p2 Φ J lw) (hcu : cu ≤ 229000) (hrest : (rest.map fun v => v.category).sum ≤ 8) (dg : decode code pc = .ok (.invokevirtual 184, 3)) (k : ∀ (r : Int32) J' lw', Φ r J' lw' → GJ g 8 (TP d t J' lw' H0) cu Q (pc + 3) lc (.int r :: rest)) : GJ g 8 (TP d t J lw H0) cu Q pc lc (.int p2 :: .int p1 :: rv (t + 1) :: rest) :=
  gl_callV (n := 2) (As := [.int p1, .int p2]) B (met_X3_chance g.2.1 hw) (lw_V q1679 q1680 q1681 q97 q1682) ⟨rfl, by decide +kernel, by decide +kernel, by decide +kernel⟩ rfl (Nat.le_of_ble_eq_true rfl) (Nat.le_of_ble_eq_true rfl) hcu rfl hrest dg (fun v J' lw' hp => by obtain ⟨r, rfl, hp⟩ := hp; exact k r J' lw' hp)
theorem tl_X3_count {g : Gm} {w : CD} {d : TD} {xs : Nat → Int32} {L t b : Nat} (B : BdL g w d xs L t b) {J : Nat → Nat → Int32} {lw : Int64} {H0 : Heap} {Q : State → Prop} {cu pc : Nat} {lc : List (Nat × Value)} {rest : List Value} {p1 : Int32} {Φ : Int32 → (Nat → Nat → Int32) → Int64 → Prop} (hw : wp_X3_count p1 Φ J lw) (hcu : cu ≤ 229000) (hrest : (rest.map fun v => v.category).sum ≤ 8) (dg : decode code pc = .ok (.invokevirtual 120, 3)) (k : ∀ (r : Int32) J' lw', Φ r J' lw' → GJ g 8 (TP d t J' lw' H0) cu Q (pc + 3) lc (.int r :: rest)) : GJ g 8 (TP d t J lw H0) cu Q pc lc (.int p1 :: rv (t + 1) :: rest) :=
  gl_callV (n := 1) (As := [.int p1]) B (met_X3_count g.2.1 hw) (lw_V q1501 q1502 q1503 q97 q1504) ⟨rfl, by decide +kernel, by decide +kernel, by decide +kernel⟩ rfl (Nat.le_of_ble_eq_true rfl) (Nat.le_of_ble_eq_true rfl) hcu rfl hrest dg (fun v J' lw' hp => by obtain ⟨r, rfl, hp⟩ := hp; exact k r J' lw' hp)
theorem tl_X3_does {g : Gm} {w : CD} {d : TD} {xs : Nat → Int32} {L t b : Nat} (B : BdL g w d xs L t b) {J : Nat → Nat → Int32} {lw : Int64} {H0 : Heap} {Q : State → Prop} {cu pc : Nat} {lc : List (Nat × Value)} {rest : List Value} {p1 : Int32} {p2 : Int32} {Φ : Int32 → (Nat → Nat → Int32) → Int64 → Prop} (hw : wp_X3_does p1 p2 Φ J lw) (hcu : cu ≤ 229000) (hrest : (rest.map fun v => v.category).sum ≤ 8) (dg : decode code pc = .ok (.invokevirtual 149, 3)) (k : ∀ (r : Int32) J' lw', Φ r J' lw' → GJ g 8 (TP d t J' lw' H0) cu Q (pc + 3) lc (.int r :: rest)) : GJ g 8 (TP d t J lw H0) cu Q pc lc (.int p2 :: .int p1 :: rv (t + 1) :: rest) :=
  gl_callV (n := 2) (As := [.int p1, .int p2]) B (met_X3_does g.2.1 hw) (lw_V q1579 q1580 q1581 q97 q1582) ⟨rfl, by decide +kernel, by decide +kernel, by decide +kernel⟩ rfl (Nat.le_of_ble_eq_true rfl) (Nat.le_of_ble_eq_true rfl) hcu rfl hrest dg (fun v J' lw' hp => by obtain ⟨r, rfl, hp⟩ := hp; exact k r J' lw' hp)
theorem tl_X3_draw {g : Gm} {w : CD} {d : TD} {xs : Nat → Int32} {L t b : Nat} (B : BdL g w d xs L t b) {J : Nat → Nat → Int32} {lw : Int64} {H0 : Heap} {Q : State → Prop} {cu pc : Nat} {lc : List (Nat × Value)} {rest : List Value} {p1 : Int32} {Φ : (Nat → Nat → Int32) → Int64 → Prop} (hw : wp_X3_draw p1 Φ J lw) (hcu : cu ≤ 229000) (hrest : (rest.map fun v => v.category).sum ≤ 8) (dg : decode code pc = .ok (.invokevirtual 146, 3)) (k : ∀ J' lw', Φ J' lw' → GJ g 8 (TP d t J' lw' H0) cu Q (pc + 3) lc (rest)) : GJ g 8 (TP d t J lw H0) cu Q pc lc (.int p1 :: rv (t + 1) :: rest) :=
  gl_callV (n := 1) (As := [.int p1]) B (met_X3_draw g.2.1 hw) (lw_V q1574 q1575 q1576 q97 q1577) ⟨rfl, by decide +kernel, by decide +kernel, by decide +kernel⟩ rfl (Nat.le_of_ble_eq_true rfl) (Nat.le_of_ble_eq_true rfl) hcu rfl hrest dg (fun v J' lw' hp => by obtain ⟨rfl, hp⟩ := hp; exact k J' lw' hp)
theorem tl_X3_fault {g : Gm} {w : CD} {d : TD} {xs : Nat → Int32} {L t b : Nat} (B : BdL g w d xs L t b) {J : Nat → Nat → Int32} {lw : Int64} {H0 : Heap} {Q : State → Prop} {cu pc : Nat} {lc : List (Nat × Value)} {rest : List Value} {Φ : Int32 → (Nat → Nat → Int32) → Int64 → Prop} (hw : wp_X3_fault Φ J lw) (hcu : cu ≤ 229000) (hrest : (rest.map fun v => v.category).sum ≤ 8) (dg : decode code pc = .ok (.invokevirtual 117, 3)) (k : ∀ (r : Int32) J' lw', Φ r J' lw' → GJ g 8 (TP d t J' lw' H0) cu Q (pc + 3) lc (.int r :: rest)) : GJ g 8 (TP d t J lw H0) cu Q pc lc (rv (t + 1) :: rest) :=
  gl_callV (n := 0) (As := []) B (met_X3_fault g.2.1 hw) (lw_V q1497 q1498 q1499 q97 q1500) ⟨rfl, by decide +kernel, by decide +kernel, by decide +kernel⟩ rfl (Nat.le_of_ble_eq_true rfl) (Nat.le_of_ble_eq_true rfl) hcu rfl hrest dg (fun v J' lw' hp => by obtain ⟨r, rfl, hp⟩ := hp; exact k r J' lw' hp)
theorem tl_X3_feed {g : Gm} {w : CD} {d : TD} {xs : Nat → Int32} {L t b : Nat} (B : BdL g w d xs L t b) {J : Nat → Nat → Int32} {lw : Int64} {H0 : Heap} {Q : State → Prop} {cu pc : Nat} {lc : List (Nat × Value)} {rest : List Value} {p1 : Int32} {p2 : Int32} {p3 : Int32} {p4 : Int32} {p5 : Int32} {Φ : Int32 → (Nat → Nat → Int32) → Int64 → Prop} (hw : wp_X3_feed p1 p2 p3 p4 p5 Φ J lw) (hcu : cu ≤ 229000) (hrest : (rest.map fun v => v.category).sum ≤ 8) (dg : decode code pc = .ok (.invokevirtual 103, 3)) (k : ∀ (r : Int32) J' lw', Φ r J' lw' → GJ g 8 (TP d t J' lw' H0) cu Q (pc + 3) lc (.int r :: rest)) : GJ g 8 (TP d t J lw H0) cu Q pc lc (.int p5 :: .int p4 :: .int p3 :: .int p2 :: .int p1 :: rv (t + 1) :: rest) :=
  gl_callV (n := 5) (As := [.int p1, .int p2, .int p3, .int p4, .int p5]) B (met_X3_feed g.2.1 hw) (lw_V q1409 q1410 q1411 q97 q1412) ⟨rfl, by decide +kernel, by decide +kernel, by decide +kernel⟩ rfl (Nat.le_of_ble_eq_true rfl) (Nat.le_of_ble_eq_true rfl) hcu rfl hrest dg (fun v J' lw' hp => by obtain ⟨r, rfl, hp⟩ := hp; exact k r J' lw' hp)
theorem tl_X3_fewest {g : Gm} {w : CD} {d : TD} {xs : Nat → Int32} {L t b : Nat} (B : BdL g w d xs L t b) {J : Nat → Nat → Int32} {lw : Int64} {H0 : Heap} {Q : State → Prop} {cu pc : Nat} {lc : List (Nat × Value)} {rest : List Value} {p1 : Int32} {p2 : Int32} {Φ : Int32 → (Nat → Nat → Int32) → Int64 → Prop} (hw : wp_X3_fewest p1 p2 Φ J lw) (hcu : cu ≤ 229000) (hrest : (rest.map fun v => v.category).sum ≤ 8) (dg : decode code pc = .ok (.invokevirtual 196, 3)) (k : ∀ (r : Int32) J' lw', Φ r J' lw' → GJ g 8 (TP d t J' lw' H0) cu Q (pc + 3) lc (.int r :: rest)) : GJ g 8 (TP d t J lw H0) cu Q pc lc (.int p2 :: .int p1 :: rv (t + 1) :: rest) :=
  gl_callV (n := 2) (As := [.int p1, .int p2]) B (met_X3_fewest g.2.1 hw) (lw_V q1719 q1720 q1721 q97 q1722) ⟨rfl, by decide +kernel, by decide +kernel, by decide +kernel⟩ rfl (Nat.le_of_ble_eq_true rfl) (Nat.le_of_ble_eq_true rfl) hcu rfl hrest dg (fun v J' lw' hp => by obtain ⟨r, rfl, hp⟩ := hp; exact k r J' lw' hp)
theorem tl_X3_fire {g : Gm} {w : CD} {d : TD} {xs : Nat → Int32} {L t b : Nat} (B : BdL g w d xs L t b) {J : Nat → Nat → Int32} {lw : Int64} {H0 : Heap} {Q : State → Prop} {cu pc : Nat} {lc : List (Nat × Value)} {rest : List Value} {p1 : Int32} {p2 : Int32} {p3 : Int32} {p4 : Int32} {p5 : Int32} {Φ : Int64 → (Nat → Nat → Int32) → Int64 → Prop} (hw : wp_X3_fire p1 p2 p3 p4 p5 Φ J lw) (hcu : cu ≤ 229000) (hrest : (rest.map fun v => v.category).sum ≤ 8) (dg : decode code pc = .ok (.invokevirtual 212, 3)) (k : ∀ (r : Int64) J' lw', Φ r J' lw' → GJ g 8 (TP d t J' lw' H0) cu Q (pc + 3) lc (.long r :: rest)) : GJ g 8 (TP d t J lw H0) cu Q pc lc (.int p5 :: .int p4 :: .int p3 :: .int p2 :: .int p1 :: rv (t + 1) :: rest) :=
  gl_callV (n := 5) (As := [.int p1, .int p2, .int p3, .int p4, .int p5]) B (met_X3_fire g.2.1 hw) (lw_V q1766 q1767 q1768 q97 q1769) ⟨rfl, by decide +kernel, by decide +kernel, by decide +kernel⟩ rfl (Nat.le_of_ble_eq_true rfl) (Nat.le_of_ble_eq_true rfl) hcu rfl hrest dg (fun v J' lw' hp => by obtain ⟨r, rfl, hp⟩ := hp; exact k r J' lw' hp)
theorem tl_X3_forget {g : Gm} {w : CD} {d : TD} {xs : Nat → Int32} {L t b : Nat} (B : BdL g w d xs L t b) {J : Nat → Nat → Int32} {lw : Int64} {H0 : Heap} {Q : State → Prop} {cu pc : Nat} {lc : List (Nat × Value)} {rest : List Value} {Φ : Int32 → (Nat → Nat → Int32) → Int64 → Prop} (hw : wp_X3_forget Φ J lw) (hcu : cu ≤ 229000) (hrest : (rest.map fun v => v.category).sum ≤ 8) (dg : decode code pc = .ok (.invokevirtual 165, 3)) (k : ∀ (r : Int32) J' lw', Φ r J' lw' → GJ g 8 (TP d t J' lw' H0) cu Q (pc + 3) lc (.int r :: rest)) : GJ g 8 (TP d t J lw H0) cu Q pc lc (rv (t + 1) :: rest) :=
  gl_callV (n := 0) (As := []) B (met_X3_forget g.2.1 hw) (lw_V q1607 q1608 q1609 q97 q1610) ⟨rfl, by decide +kernel, by decide +kernel, by decide +kernel⟩ rfl (Nat.le_of_ble_eq_true rfl) (Nat.le_of_ble_eq_true rfl) hcu rfl hrest dg (fun v J' lw' hp => by obtain ⟨r, rfl, hp⟩ := hp; exact k r J' lw' hp)
theorem tl_X3_house {g : Gm} {w : CD} {d : TD} {xs : Nat → Int32} {L t b : Nat} (B : BdL g w d xs L t b) {J : Nat → Nat → Int32} {lw : Int64} {H0 : Heap} {Q : State → Prop} {cu pc : Nat} {lc : List (Nat × Value)} {rest : List Value} {p1 : Int32} {Φ : Int32 → (Nat → Nat → Int32) → Int64 → Prop} (hw : wp_X3_house p1 Φ J lw) (hcu : cu ≤ 229000) (hrest : (rest.map fun v => v.category).sum ≤ 8) (dg : decode code pc = .ok (.invokevirtual 109, 3)) (k : ∀ (r : Int32) J' lw', Φ r J' lw' → GJ g 8 (TP d t J' lw' H0) cu Q (pc + 3) lc (.int r :: rest)) : GJ g 8 (TP d t J lw H0) cu Q pc lc (.int p1 :: rv (t + 1) :: rest) :=
  gl_callV (n := 1) (As := [.int p1]) B (met_X3_house g.2.1 hw) (lw_V q1417 q1418 q1419 q97 q1420) ⟨rfl, by decide +kernel, by decide +kernel, by decide +kernel⟩ rfl (Nat.le_of_ble_eq_true rfl) (Nat.le_of_ble_eq_true rfl) hcu rfl hrest dg (fun v J' lw' hp => by obtain ⟨r, rfl, hp⟩ := hp; exact k r J' lw' hp)
theorem tl_X3_image {g : Gm} {w : CD} {d : TD} {xs : Nat → Int32} {L t b : Nat} (B : BdL g w d xs L t b) {J : Nat → Nat → Int32} {lw : Int64} {H0 : Heap} {Q : State → Prop} {cu pc : Nat} {lc : List (Nat × Value)} {rest : List Value} {Φ : (Nat → Nat → Int32) → Int64 → Prop} (hw : wp_X3_image Φ J lw) (hcu : cu ≤ 229000) (hrest : (rest.map fun v => v.category).sum ≤ 8) (dg : decode code pc = .ok (.invokevirtual 216, 3)) (k : ∀ J' lw', Φ J' lw' → GJ g 8 (TP d t J' lw' H0) cu Q (pc + 3) lc (rest)) : GJ g 8 (TP d t J lw H0) cu Q pc lc (rv (t + 1) :: rest) :=
  gl_callV (n := 0) (As := []) B (met_X3_image g.2.1 hw) (lw_V q1773 q1774 q1775 q97 q1776) ⟨rfl, by decide +kernel, by decide +kernel, by decide +kernel⟩ rfl (Nat.le_of_ble_eq_true rfl) (Nat.le_of_ble_eq_true rfl) hcu rfl hrest dg (fun v J' lw' hp => by obtain ⟨rfl, hp⟩ := hp; exact k J' lw' hp)
theorem tl_X3_inCase {g : Gm} {w : CD} {d : TD} {xs : Nat → Int32} {L t b : Nat} (B : BdL g w d xs L t b) {J : Nat → Nat → Int32} {lw : Int64} {H0 : Heap} {Q : State → Prop} {cu pc : Nat} {lc : List (Nat × Value)} {rest : List Value} {p1 : Int32} {p2 : Int32} {Φ : Int32 → (Nat → Nat → Int32) → Int64 → Prop} (hw : wp_X3_inCase p1 p2 Φ J lw) (hcu : cu ≤ 229000) (hrest : (rest.map fun v => v.category).sum ≤ 8) (dg : decode code pc = .ok (.invokevirtual 172, 3)) (k : ∀ (r : Int32) J' lw', Φ r J' lw' → GJ g 8 (TP d t J' lw' H0) cu Q (pc + 3) lc (.int r :: rest)) : GJ g 8 (TP d t J lw H0) cu Q pc lc (.int p2 :: .int p1 :: rv (t + 1) :: rest) :=
  gl_callV (n := 2) (As := [.int p1, .int p2]) B (met_X3_inCase g.2.1 hw) (lw_V q1639 q1640 q1641 q97 q1642) ⟨rfl, by decide +kernel, by decide +kernel, by decide +kernel⟩ rfl (Nat.le_of_ble_eq_true rfl) (Nat.le_of_ble_eq_true rfl) hcu rfl hrest dg (fun v J' lw' hp => by obtain ⟨r, rfl, hp⟩ := hp; exact k r J' lw' hp)
theorem tl_X3_kinds {g : Gm} {w : CD} {d : TD} {xs : Nat → Int32} {L t b : Nat} (B : BdL g w d xs L t b) {J : Nat → Nat → Int32} {lw : Int64} {H0 : Heap} {Q : State → Prop} {cu pc : Nat} {lc : List (Nat × Value)} {rest : List Value} {p1 : Int32} {p2 : Int32} {Φ : Int32 → (Nat → Nat → Int32) → Int64 → Prop} (hw : wp_X3_kinds p1 p2 Φ J lw) (hcu : cu ≤ 229000) (hrest : (rest.map fun v => v.category).sum ≤ 8) (dg : decode code pc = .ok (.invokevirtual 202, 3)) (k : ∀ (r : Int32) J' lw', Φ r J' lw' → GJ g 8 (TP d t J' lw' H0) cu Q (pc + 3) lc (.int r :: rest)) : GJ g 8 (TP d t J lw H0) cu Q pc lc (.int p2 :: .int p1 :: rv (t + 1) :: rest) :=
  gl_callV (n := 2) (As := [.int p1, .int p2]) B (met_X3_kinds g.2.1 hw) (lw_V q1743 q1744 q1745 q97 q1746) ⟨rfl, by decide +kernel, by decide +kernel, by decide +kernel⟩ rfl (Nat.le_of_ble_eq_true rfl) (Nat.le_of_ble_eq_true rfl) hcu rfl hrest dg (fun v J' lw' hp => by obtain ⟨r, rfl, hp⟩ := hp; exact k r J' lw' hp)
theorem tl_X3_lend {g : Gm} {w : CD} {d : TD} {xs : Nat → Int32} {L t b : Nat} (B : BdL g w d xs L t b) {J : Nat → Nat → Int32} {lw : Int64} {H0 : Heap} {Q : State → Prop} {cu pc : Nat} {lc : List (Nat × Value)} {rest : List Value} {p1 : Int32} {p2 : Int32} {p3 : Int32} {Φ : Int32 → (Nat → Nat → Int32) → Int64 → Prop} (hw : wp_X3_lend p1 p2 p3 Φ J lw) (hcu : cu ≤ 229000) (hrest : (rest.map fun v => v.category).sum ≤ 8) (dg : decode code pc = .ok (.invokevirtual 137, 3)) (k : ∀ (r : Int32) J' lw', Φ r J' lw' → GJ g 8 (TP d t J' lw' H0) cu Q (pc + 3) lc (.int r :: rest)) : GJ g 8 (TP d t J lw H0) cu Q pc lc (.int p3 :: .int p2 :: .int p1 :: rv (t + 1) :: rest) :=
  gl_callV (n := 3) (As := [.int p1, .int p2, .int p3]) B (met_X3_lend g.2.1 hw) (lw_V q1562 q1563 q1564 q97 q1565) ⟨rfl, by decide +kernel, by decide +kernel, by decide +kernel⟩ rfl (Nat.le_of_ble_eq_true rfl) (Nat.le_of_ble_eq_true rfl) hcu rfl hrest dg (fun v J' lw' hp => by obtain ⟨r, rfl, hp⟩ := hp; exact k r J' lw' hp)
theorem tl_X3_lender {g : Gm} {w : CD} {d : TD} {xs : Nat → Int32} {L t b : Nat} (B : BdL g w d xs L t b) {J : Nat → Nat → Int32} {lw : Int64} {H0 : Heap} {Q : State → Prop} {cu pc : Nat} {lc : List (Nat × Value)} {rest : List Value} {p1 : Int32} {Φ : Int32 → (Nat → Nat → Int32) → Int64 → Prop} (hw : wp_X3_lender p1 Φ J lw) (hcu : cu ≤ 229000) (hrest : (rest.map fun v => v.category).sum ≤ 8) (dg : decode code pc = .ok (.invokevirtual 199, 3)) (k : ∀ (r : Int32) J' lw', Φ r J' lw' → GJ g 8 (TP d t J' lw' H0) cu Q (pc + 3) lc (.int r :: rest)) : GJ g 8 (TP d t J lw H0) cu Q pc lc (.int p1 :: rv (t + 1) :: rest) :=
  gl_callV (n := 1) (As := [.int p1]) B (met_X3_lender g.2.1 hw) (lw_V q1739 q1740 q1741 q97 q1742) ⟨rfl, by decide +kernel, by decide +kernel, by decide +kernel⟩ rfl (Nat.le_of_ble_eq_true rfl) (Nat.le_of_ble_eq_true rfl) hcu rfl hrest dg (fun v J' lw' hp => by obtain ⟨r, rfl, hp⟩ := hp; exact k r J' lw' hp)
theorem tl_X3_lodger {g : Gm} {w : CD} {d : TD} {xs : Nat → Int32} {L t b : Nat} (B : BdL g w d xs L t b) {J : Nat → Nat → Int32} {lw : Int64} {H0 : Heap} {Q : State → Prop} {cu pc : Nat} {lc : List (Nat × Value)} {rest : List Value} {p1 : Int32} {p2 : Int32} {Φ : Int32 → (Nat → Nat → Int32) → Int64 → Prop} (hw : wp_X3_lodger p1 p2 Φ J lw) (hcu : cu ≤ 229000) (hrest : (rest.map fun v => v.category).sum ≤ 8) (dg : decode code pc = .ok (.invokevirtual 127, 3)) (k : ∀ (r : Int32) J' lw', Φ r J' lw' → GJ g 8 (TP d t J' lw' H0) cu Q (pc + 3) lc (.int r :: rest)) : GJ g 8 (TP d t J lw H0) cu Q pc lc (.int p2 :: .int p1 :: rv (t + 1) :: rest) :=
  gl_callV (n := 2) (As := [.int p1, .int p2]) B (met_X3_lodger g.2.1 hw) (lw_V q1520 q1521 q1522 q97 q1523) ⟨rfl, by decide +kernel, by decide +kernel, by decide +kernel⟩ rfl (Nat.le_of_ble_eq_true rfl) (Nat.le_of_ble_eq_true rfl) hcu rfl hrest dg (fun v J' lw' hp => by obtain ⟨r, rfl, hp⟩ := hp; exact k r J' lw' hp)
theorem tl_X3_look {g : Gm} {w : CD} {d : TD} {xs : Nat → Int32} {L t b : Nat} (B : BdL g w d xs L t b) {J : Nat → Nat → Int32} {lw : Int64} {H0 : Heap} {Q : State → Prop} {cu pc : Nat} {lc : List (Nat × Value)} {rest : List Value} {p1 : Int32} {p2 : Int32} {p3 : Int32} {Φ : Int32 → (Nat → Nat → Int32) → Int64 → Prop} (hw : wp_X3_look p1 p2 p3 Φ J lw) (hcu : cu ≤ 229000) (hrest : (rest.map fun v => v.category).sum ≤ 8) (dg : decode code pc = .ok (.invokevirtual 155, 3)) (k : ∀ (r : Int32) J' lw', Φ r J' lw' → GJ g 8 (TP d t J' lw' H0) cu Q (pc + 3) lc (.int r :: rest)) : GJ g 8 (TP d t J lw H0) cu Q pc lc (.int p3 :: .int p2 :: .int p1 :: rv (t + 1) :: rest) :=
  gl_callV (n := 3) (As := [.int p1, .int p2, .int p3]) B (met_X3_look g.2.1 hw) (lw_V q1591 q1592 q1593 q97 q1594) ⟨rfl, by decide +kernel, by decide +kernel, by decide +kernel⟩ rfl (Nat.le_of_ble_eq_true rfl) (Nat.le_of_ble_eq_true rfl) hcu rfl hrest dg (fun v J' lw' hp => by obtain ⟨r, rfl, hp⟩ := hp; exact k r J' lw' hp)
theorem tl_X3_may {g : Gm} {w : CD} {d : TD} {xs : Nat → Int32} {L t b : Nat} (B : BdL g w d xs L t b) {J : Nat → Nat → Int32} {lw : Int64} {H0 : Heap} {Q : State → Prop} {cu pc : Nat} {lc : List (Nat × Value)} {rest : List Value} {p1 : Int32} {p2 : Int32} {p3 : Int32} {Φ : Int32 → (Nat → Nat → Int32) → Int64 → Prop} (hw : wp_X3_may p1 p2 p3 Φ J lw) (hcu : cu ≤ 229000) (hrest : (rest.map fun v => v.category).sum ≤ 8) (dg : decode code pc = .ok (.invokevirtual 131, 3)) (k : ∀ (r : Int32) J' lw', Φ r J' lw' → GJ g 8 (TP d t J' lw' H0) cu Q (pc + 3) lc (.int r :: rest)) : GJ g 8 (TP d t J lw H0) cu Q pc lc (.int p3 :: .int p2 :: .int p1 :: rv (t + 1) :: rest) :=
  gl_callV (n := 3) (As := [.int p1, .int p2, .int p3]) B (met_X3_may g.2.1 hw) (lw_V q1532 q1533 q1534 q97 q1535) ⟨rfl, by decide +kernel, by decide +kernel, by decide +kernel⟩ rfl (Nat.le_of_ble_eq_true rfl) (Nat.le_of_ble_eq_true rfl) hcu rfl hrest dg (fun v J' lw' hp => by obtain ⟨r, rfl, hp⟩ := hp; exact k r J' lw' hp)
theorem tl_X3_mend {g : Gm} {w : CD} {d : TD} {xs : Nat → Int32} {L t b : Nat} (B : BdL g w d xs L t b) {J : Nat → Nat → Int32} {lw : Int64} {H0 : Heap} {Q : State → Prop} {cu pc : Nat} {lc : List (Nat × Value)} {rest : List Value} {p1 : Int32} {p2 : Int32} {p3 : Int32} {Φ : Int32 → (Nat → Nat → Int32) → Int64 → Prop} (hw : wp_X3_mend p1 p2 p3 Φ J lw) (hcu : cu ≤ 229000) (hrest : (rest.map fun v => v.category).sum ≤ 8) (dg : decode code pc = .ok (.invokevirtual 208, 3)) (k : ∀ (r : Int32) J' lw', Φ r J' lw' → GJ g 8 (TP d t J' lw' H0) cu Q (pc + 3) lc (.int r :: rest)) : GJ g 8 (TP d t J lw H0) cu Q pc lc (.int p3 :: .int p2 :: .int p1 :: rv (t + 1) :: rest) :=
  gl_callV (n := 3) (As := [.int p1, .int p2, .int p3]) B (met_X3_mend g.2.1 hw) (lw_V q1762 q1763 q1764 q97 q1765) ⟨rfl, by decide +kernel, by decide +kernel, by decide +kernel⟩ rfl (Nat.le_of_ble_eq_true rfl) (Nat.le_of_ble_eq_true rfl) hcu rfl hrest dg (fun v J' lw' hp => by obtain ⟨r, rfl, hp⟩ := hp; exact k r J' lw' hp)
theorem tl_X3_misled {g : Gm} {w : CD} {d : TD} {xs : Nat → Int32} {L t b : Nat} (B : BdL g w d xs L t b) {J : Nat → Nat → Int32} {lw : Int64} {H0 : Heap} {Q : State → Prop} {cu pc : Nat} {lc : List (Nat × Value)} {rest : List Value} {p1 : Int32} {p2 : Int32} {p3 : Int32} {Φ : Int32 → (Nat → Nat → Int32) → Int64 → Prop} (hw : wp_X3_misled p1 p2 p3 Φ J lw) (hcu : cu ≤ 229000) (hrest : (rest.map fun v => v.category).sum ≤ 8) (dg : decode code pc = .ok (.invokevirtual 181, 3)) (k : ∀ (r : Int32) J' lw', Φ r J' lw' → GJ g 8 (TP d t J' lw' H0) cu Q (pc + 3) lc (.int r :: rest)) : GJ g 8 (TP d t J lw H0) cu Q pc lc (.int p3 :: .int p2 :: .int p1 :: rv (t + 1) :: rest) :=
  gl_callV (n := 3) (As := [.int p1, .int p2, .int p3]) B (met_X3_misled g.2.1 hw) (lw_V q1663 q1664 q1665 q97 q1666) ⟨rfl, by decide +kernel, by decide +kernel, by decide +kernel⟩ rfl (Nat.le_of_ble_eq_true rfl) (Nat.le_of_ble_eq_true rfl) hcu rfl hrest dg (fun v J' lw' hp => by obtain ⟨r, rfl, hp⟩ := hp; exact k r J' lw' hp)
theorem tl_X3_path {g : Gm} {w : CD} {d : TD} {xs : Nat → Int32} {L t b : Nat} (B : BdL g w d xs L t b) {J : Nat → Nat → Int32} {lw : Int64} {H0 : Heap} {Q : State → Prop} {cu pc : Nat} {lc : List (Nat × Value)} {rest : List Value} {p1 : Int32} {p2 : Int32} {Φ : Int32 → (Nat → Nat → Int32) → Int64 → Prop} (hw : wp_X3_path p1 p2 Φ J lw) (hcu : cu ≤ 229000) (hrest : (rest.map fun v => v.category).sum ≤ 8) (dg : decode code pc = .ok (.invokevirtual 190, 3)) (k : ∀ (r : Int32) J' lw', Φ r J' lw' → GJ g 8 (TP d t J' lw' H0) cu Q (pc + 3) lc (.int r :: rest)) : GJ g 8 (TP d t J lw H0) cu Q pc lc (.int p2 :: .int p1 :: rv (t + 1) :: rest) :=
  gl_callV (n := 2) (As := [.int p1, .int p2]) B (met_X3_path g.2.1 hw) (lw_V q1703 q1704 q1705 q97 q1706) ⟨rfl, by decide +kernel, by decide +kernel, by decide +kernel⟩ rfl (Nat.le_of_ble_eq_true rfl) (Nat.le_of_ble_eq_true rfl) hcu rfl hrest dg (fun v J' lw' hp => by obtain ⟨r, rfl, hp⟩ := hp; exact k r J' lw' hp)
theorem tl_X3_restore {g : Gm} {w : CD} {d : TD} {xs : Nat → Int32} {L t b : Nat} (B : BdL g w d xs L t b) {J : Nat → Nat → Int32} {lw : Int64} {H0 : Heap} {Q : State → Prop} {cu pc : Nat} {lc : List (Nat × Value)} {rest : List Value} {Φ : Int32 → (Nat → Nat → Int32) → Int64 → Prop} (hw : wp_X3_restore Φ J lw) (hcu : cu ≤ 229000) (hrest : (rest.map fun v => v.category).sum ≤ 8) (dg : decode code pc = .ok (.invokevirtual 221, 3)) (k : ∀ (r : Int32) J' lw', (r = 0 ∨ r = 1) → Φ r J' lw' → GJ g 8 (TP d t J' lw' H0) cu Q (pc + 3) lc (.int r :: rest)) : GJ g 8 (TP d t J lw H0) cu Q pc lc (rv (t + 1) :: rest) :=
  gl_callV (n := 0) (As := []) B (met_X3_restore g.2.1 hw) (lw_V q1777 q1778 q1779 q97 q1780) ⟨rfl, by decide +kernel, by decide +kernel, by decide +kernel⟩ rfl (Nat.le_of_ble_eq_true rfl) (Nat.le_of_ble_eq_true rfl) hcu rfl hrest dg (fun v J' lw' hp => by obtain ⟨r, rfl, hb, hp⟩ := hp; exact k r J' lw' hb hp)
theorem tl_X3_rests {g : Gm} {w : CD} {d : TD} {xs : Nat → Int32} {L t b : Nat} (B : BdL g w d xs L t b) {J : Nat → Nat → Int32} {lw : Int64} {H0 : Heap} {Q : State → Prop} {cu pc : Nat} {lc : List (Nat × Value)} {rest : List Value} {p1 : Int32} {p2 : Int32} {p3 : Int32} {Φ : Int32 → (Nat → Nat → Int32) → Int64 → Prop} (hw : wp_X3_rests p1 p2 p3 Φ J lw) (hcu : cu ≤ 229000) (hrest : (rest.map fun v => v.category).sum ≤ 8) (dg : decode code pc = .ok (.invokevirtual 193, 3)) (k : ∀ (r : Int32) J' lw', Φ r J' lw' → GJ g 8 (TP d t J' lw' H0) cu Q (pc + 3) lc (.int r :: rest)) : GJ g 8 (TP d t J lw H0) cu Q pc lc (.int p3 :: .int p2 :: .int p1 :: rv (t + 1) :: rest) :=
  gl_callV (n := 3) (As := [.int p1, .int p2, .int p3]) B (met_X3_rests g.2.1 hw) (lw_V q1707 q1708 q1709 q97 q1710) ⟨rfl, by decide +kernel, by decide +kernel, by decide +kernel⟩ rfl (Nat.le_of_ble_eq_true rfl) (Nat.le_of_ble_eq_true rfl) hcu rfl hrest dg (fun v J' lw' hp => by obtain ⟨r, rfl, hp⟩ := hp; exact k r J' lw' hp)
theorem tl_X3_room {g : Gm} {w : CD} {d : TD} {xs : Nat → Int32} {L t b : Nat} (B : BdL g w d xs L t b) {J : Nat → Nat → Int32} {lw : Int64} {H0 : Heap} {Q : State → Prop} {cu pc : Nat} {lc : List (Nat × Value)} {rest : List Value} {p1 : Int32} {p2 : Int32} {Φ : Int32 → (Nat → Nat → Int32) → Int64 → Prop} (hw : wp_X3_room p1 p2 Φ J lw) (hcu : cu ≤ 229000) (hrest : (rest.map fun v => v.category).sum ≤ 8) (dg : decode code pc = .ok (.invokevirtual 124, 3)) (k : ∀ (r : Int32) J' lw', Φ r J' lw' → GJ g 8 (TP d t J' lw' H0) cu Q (pc + 3) lc (.int r :: rest)) : GJ g 8 (TP d t J lw H0) cu Q pc lc (.int p2 :: .int p1 :: rv (t + 1) :: rest) :=
  gl_callV (n := 2) (As := [.int p1, .int p2]) B (met_X3_room g.2.1 hw) (lw_V q1508 q1509 q1510 q97 q1511) ⟨rfl, by decide +kernel, by decide +kernel, by decide +kernel⟩ rfl (Nat.le_of_ble_eq_true rfl) (Nat.le_of_ble_eq_true rfl) hcu rfl hrest dg (fun v J' lw' hp => by obtain ⟨r, rfl, hp⟩ := hp; exact k r J' lw' hp)
theorem tl_X3_round {g : Gm} {w : CD} {d : TD} {xs : Nat → Int32} {L t b : Nat} (B : BdL g w d xs L t b) {J : Nat → Nat → Int32} {lw : Int64} {H0 : Heap} {Q : State → Prop} {cu pc : Nat} {lc : List (Nat × Value)} {rest : List Value} {p1 : Int32} {p2 : Int32} {p3 : Int32} {Φ : Int32 → (Nat → Nat → Int32) → Int64 → Prop} (hw : wp_X3_round p1 p2 p3 Φ J lw) (hcu : cu ≤ 229000) (hrest : (rest.map fun v => v.category).sum ≤ 8) (dg : decode code pc = .ok (.invokevirtual 187, 3)) (k : ∀ (r : Int32) J' lw', Φ r J' lw' → GJ g 8 (TP d t J' lw' H0) cu Q (pc + 3) lc (.int r :: rest)) : GJ g 8 (TP d t J lw H0) cu Q pc lc (.int p3 :: .int p2 :: .int p1 :: rv (t + 1) :: rest) :=
  gl_callV (n := 3) (As := [.int p1, .int p2, .int p3]) B (met_X3_round g.2.1 hw) (lw_V q1687 q1688 q1689 q97 q1690) ⟨rfl, by decide +kernel, by decide +kernel, by decide +kernel⟩ rfl (Nat.le_of_ble_eq_true rfl) (Nat.le_of_ble_eq_true rfl) hcu rfl hrest dg (fun v J' lw' hp => by obtain ⟨r, rfl, hp⟩ := hp; exact k r J' lw' hp)
theorem tl_X3_says {g : Gm} {w : CD} {d : TD} {xs : Nat → Int32} {L t b : Nat} (B : BdL g w d xs L t b) {J : Nat → Nat → Int32} {lw : Int64} {H0 : Heap} {Q : State → Prop} {cu pc : Nat} {lc : List (Nat × Value)} {rest : List Value} {p1 : Int32} {p2 : Int32} {Φ : Int32 → (Nat → Nat → Int32) → Int64 → Prop} (hw : wp_X3_says p1 p2 Φ J lw) (hcu : cu ≤ 229000) (hrest : (rest.map fun v => v.category).sum ≤ 8) (dg : decode code pc = .ok (.invokevirtual 134, 3)) (k : ∀ (r : Int32) J' lw', Φ r J' lw' → GJ g 8 (TP d t J' lw' H0) cu Q (pc + 3) lc (.int r :: rest)) : GJ g 8 (TP d t J lw H0) cu Q pc lc (.int p2 :: .int p1 :: rv (t + 1) :: rest) :=
  gl_callV (n := 2) (As := [.int p1, .int p2]) B (met_X3_says g.2.1 hw) (lw_V q1546 q1547 q1548 q97 q1549) ⟨rfl, by decide +kernel, by decide +kernel, by decide +kernel⟩ rfl (Nat.le_of_ble_eq_true rfl) (Nat.le_of_ble_eq_true rfl) hcu rfl hrest dg (fun v J' lw' hp => by obtain ⟨r, rfl, hp⟩ := hp; exact k r J' lw' hp)
theorem tl_X3_see {g : Gm} {w : CD} {d : TD} {xs : Nat → Int32} {L t b : Nat} (B : BdL g w d xs L t b) {J : Nat → Nat → Int32} {lw : Int64} {H0 : Heap} {Q : State → Prop} {cu pc : Nat} {lc : List (Nat × Value)} {rest : List Value} {p1 : Int32} {p2 : Int32} {p3 : Int32} {Φ : Int32 → (Nat → Nat → Int32) → Int64 → Prop} (hw : wp_X3_see p1 p2 p3 Φ J lw) (hcu : cu ≤ 229000) (hrest : (rest.map fun v => v.category).sum ≤ 8) (dg : decode code pc = .ok (.invokevirtual 161, 3)) (k : ∀ (r : Int32) J' lw', Φ r J' lw' → GJ g 8 (TP d t J' lw' H0) cu Q (pc + 3) lc (.int r :: rest)) : GJ g 8 (TP d t J lw H0) cu Q pc lc (.int p3 :: .int p2 :: .int p1 :: rv (t + 1) :: rest) :=
  gl_callV (n := 3) (As := [.int p1, .int p2, .int p3]) B (met_X3_see g.2.1 hw) (lw_V q1603 q1604 q1605 q97 q1606) ⟨rfl, by decide +kernel, by decide +kernel, by decide +kernel⟩ rfl (Nat.le_of_ble_eq_true rfl) (Nat.le_of_ble_eq_true rfl) hcu rfl hrest dg (fun v J' lw' hp => by obtain ⟨r, rfl, hp⟩ := hp; exact k r J' lw' hp)
theorem tl_X3_sign {g : Gm} {w : CD} {d : TD} {xs : Nat → Int32} {L t b : Nat} (B : BdL g w d xs L t b) {J : Nat → Nat → Int32} {lw : Int64} {H0 : Heap} {Q : State → Prop} {cu pc : Nat} {lc : List (Nat × Value)} {rest : List Value} {p1 : Int32} {p2 : Int32} {Φ : Int32 → (Nat → Nat → Int32) → Int64 → Prop} (hw : wp_X3_sign p1 p2 Φ J lw) (hcu : cu ≤ 229000) (hrest : (rest.map fun v => v.category).sum ≤ 8) (dg : decode code pc = .ok (.invokevirtual 152, 3)) (k : ∀ (r : Int32) J' lw', Φ r J' lw' → GJ g 8 (TP d t J' lw' H0) cu Q (pc + 3) lc (.int r :: rest)) : GJ g 8 (TP d t J lw H0) cu Q pc lc (.int p2 :: .int p1 :: rv (t + 1) :: rest) :=
  gl_callV (n := 2) (As := [.int p1, .int p2]) B (met_X3_sign g.2.1 hw) (lw_V q1583 q1584 q1585 q97 q1586) ⟨rfl, by decide +kernel, by decide +kernel, by decide +kernel⟩ rfl (Nat.le_of_ble_eq_true rfl) (Nat.le_of_ble_eq_true rfl) hcu rfl hrest dg (fun v J' lw' hp => by obtain ⟨r, rfl, hp⟩ := hp; exact k r J' lw' hp)
theorem tl_X3_sure {g : Gm} {w : CD} {d : TD} {xs : Nat → Int32} {L t b : Nat} (B : BdL g w d xs L t b) {J : Nat → Nat → Int32} {lw : Int64} {H0 : Heap} {Q : State → Prop} {cu pc : Nat} {lc : List (Nat × Value)} {rest : List Value} {p1 : Int32} {Φ : Int32 → (Nat → Nat → Int32) → Int64 → Prop} (hw : wp_X3_sure p1 Φ J lw) (hcu : cu ≤ 229000) (hrest : (rest.map fun v => v.category).sum ≤ 8) (dg : decode code pc = .ok (.invokevirtual 175, 3)) (k : ∀ (r : Int32) J' lw', Φ r J' lw' → GJ g 8 (TP d t J' lw' H0) cu Q (pc + 3) lc (.int r :: rest)) : GJ g 8 (TP d t J lw H0) cu Q pc lc (.int p1 :: rv (t + 1) :: rest) :=
  gl_callV (n := 1) (As := [.int p1]) B (met_X3_sure g.2.1 hw) (lw_V q1643 q1644 q1645 q97 q1646) ⟨rfl, by decide +kernel, by decide +kernel, by decide +kernel⟩ rfl (Nat.le_of_ble_eq_true rfl) (Nat.le_of_ble_eq_true rfl) hcu rfl hrest dg (fun v J' lw' hp => by obtain ⟨r, rfl, hp⟩ := hp; exact k r J' lw' hp)
theorem tl_X3_theft {g : Gm} {w : CD} {d : TD} {xs : Nat → Int32} {L t b : Nat} (B : BdL g w d xs L t b) {J : Nat → Nat → Int32} {lw : Int64} {H0 : Heap} {Q : State → Prop} {cu pc : Nat} {lc : List (Nat × Value)} {rest : List Value} {p1 : Int32} {p2 : Int32} {Φ : Int32 → (Nat → Nat → Int32) → Int64 → Prop} (hw : wp_X3_theft p1 p2 Φ J lw) (hcu : cu ≤ 229000) (hrest : (rest.map fun v => v.category).sum ≤ 8) (dg : decode code pc = .ok (.invokevirtual 158, 3)) (k : ∀ (r : Int32) J' lw', Φ r J' lw' → GJ g 8 (TP d t J' lw' H0) cu Q (pc + 3) lc (.int r :: rest)) : GJ g 8 (TP d t J lw H0) cu Q pc lc (.int p2 :: .int p1 :: rv (t + 1) :: rest) :=
  gl_callV (n := 2) (As := [.int p1, .int p2]) B (met_X3_theft g.2.1 hw) (lw_V q1599 q1600 q1601 q97 q1602) ⟨rfl, by decide +kernel, by decide +kernel, by decide +kernel⟩ rfl (Nat.le_of_ble_eq_true rfl) (Nat.le_of_ble_eq_true rfl) hcu rfl hrest dg (fun v J' lw' hp => by obtain ⟨r, rfl, hp⟩ := hp; exact k r J' lw' hp)
theorem tl_X3_thrown {g : Gm} {w : CD} {d : TD} {xs : Nat → Int32} {L t b : Nat} (B : BdL g w d xs L t b) {J : Nat → Nat → Int32} {lw : Int64} {H0 : Heap} {Q : State → Prop} {cu pc : Nat} {lc : List (Nat × Value)} {rest : List Value} {Φ : Int32 → (Nat → Nat → Int32) → Int64 → Prop} (hw : wp_X3_thrown Φ J lw) (hcu : cu ≤ 229000) (hrest : (rest.map fun v => v.category).sum ≤ 8) (dg : decode code pc = .ok (.invokevirtual 110, 3)) (k : ∀ (r : Int32) J' lw', Φ r J' lw' → GJ g 8 (TP d t J' lw' H0) cu Q (pc + 3) lc (.int r :: rest)) : GJ g 8 (TP d t J lw H0) cu Q pc lc (rv (t + 1) :: rest) :=
  gl_callV (n := 0) (As := []) B (met_X3_thrown g.2.1 hw) (lw_V q1405 q1406 q1407 q97 q1408) ⟨rfl, by decide +kernel, by decide +kernel, by decide +kernel⟩ rfl (Nat.le_of_ble_eq_true rfl) (Nat.le_of_ble_eq_true rfl) hcu rfl hrest dg (fun v J' lw' hp => by obtain ⟨r, rfl, hp⟩ := hp; exact k r J' lw' hp)
theorem tl_X3_where {g : Gm} {w : CD} {d : TD} {xs : Nat → Int32} {L t b : Nat} (B : BdL g w d xs L t b) {J : Nat → Nat → Int32} {lw : Int64} {H0 : Heap} {Q : State → Prop} {cu pc : Nat} {lc : List (Nat × Value)} {rest : List Value} {p1 : Int32} {Φ : Int32 → (Nat → Nat → Int32) → Int64 → Prop} (hw : wp_X3_where p1 Φ J lw) (hcu : cu ≤ 229000) (hrest : (rest.map fun v => v.category).sum ≤ 8) (dg : decode code pc = .ok (.invokevirtual 178, 3)) (k : ∀ (r : Int32) J' lw', Φ r J' lw' → GJ g 8 (TP d t J' lw' H0) cu Q (pc + 3) lc (.int r :: rest)) : GJ g 8 (TP d t J lw H0) cu Q pc lc (.int p1 :: rv (t + 1) :: rest) :=
  gl_callV (n := 1) (As := [.int p1]) B (met_X3_where g.2.1 hw) (lw_V q1659 q1660 q1661 q97 q1662) ⟨rfl, by decide +kernel, by decide +kernel, by decide +kernel⟩ rfl (Nat.le_of_ble_eq_true rfl) (Nat.le_of_ble_eq_true rfl) hcu rfl hrest dg (fun v J' lw' hp => by obtain ⟨r, rfl, hp⟩ := hp; exact k r J' lw' hp)
theorem tl_X3_word {g : Gm} {w : CD} {d : TD} {xs : Nat → Int32} {L t b : Nat} (B : BdL g w d xs L t b) {J : Nat → Nat → Int32} {lw : Int64} {H0 : Heap} {Q : State → Prop} {cu pc : Nat} {lc : List (Nat × Value)} {rest : List Value} {p1 : Int32} {p2 : Int32} {Φ : Int32 → (Nat → Nat → Int32) → Int64 → Prop} (hw : wp_X3_word p1 p2 Φ J lw) (hcu : cu ≤ 229000) (hrest : (rest.map fun v => v.category).sum ≤ 8) (dg : decode code pc = .ok (.invokevirtual 205, 3)) (k : ∀ (r : Int32) J' lw', Φ r J' lw' → GJ g 8 (TP d t J' lw' H0) cu Q (pc + 3) lc (.int r :: rest)) : GJ g 8 (TP d t J lw H0) cu Q pc lc (.int p2 :: .int p1 :: rv (t + 1) :: rest) :=
  gl_callV (n := 2) (As := [.int p1, .int p2]) B (met_X3_word g.2.1 hw) (lw_V q1758 q1759 q1760 q97 q1761) ⟨rfl, by decide +kernel, by decide +kernel, by decide +kernel⟩ rfl (Nat.le_of_ble_eq_true rfl) (Nat.le_of_ble_eq_true rfl) hcu rfl hrest dg (fun v J' lw' hp => by obtain ⟨r, rfl, hp⟩ := hp; exact k r J' lw' hp)
def wf_L_law_23 (w : CD) (xs : Nat → Int32) (L t b x o : Nat) (X23 : Int32 → MI → MR → MK → Nat → (Nat → Nat → Int32) → Int64 → Nat → Prop) (v4 : Int32) (I : MI) (R : MR) (K : MK) (nx : Nat) (J : Nat → Nat → Int32) (lw : Int64) (cu : Nat) : Prop :=
(if ((nI L) - 6) < v4 then (cu ≤ 229000 ∧ ((1 : Int32) = 1)) else (vp_in v4 L ∧ (if ((xs (Int32.toNatClampNeg v4)) &&& 63) = 0 then (vp_in (v4 + 1) L ∧ (vp_in (v4 + 2) L ∧ (vp_in (v4 + 3) L ∧ (vp_in (v4 + 4) L ∧ (vp_in (v4 + 5) L ∧ ((K x).1 = 1 ∧ (cu + 0 ≤ 229000 ∧ (wp_X1_feed w x (xs (Int32.toNatClampNeg (v4 + 1))) (xs (Int32.toNatClampNeg (v4 + 2))) (xs (Int32.toNatClampNeg (v4 + 3))) (xs (Int32.toNatClampNeg (v4 + 4))) (xs (Int32.toNatClampNeg (v4 + 5))) (fun z16 I12 R13 K14 n15 => (vp_in (v4 + 1) L ∧ (vp_in (v4 + 2) L ∧ (vp_in (v4 + 3) L ∧ (vp_in (v4 + 4) L ∧ (vp_in (v4 + 5) L ∧ ((cu + 0) ≤ 229000 ∧ (wp_X3_feed (xs (Int32.toNatClampNeg (v4 + 1))) (xs (Int32.toNatClampNeg (v4 + 2))) (xs (Int32.toNatClampNeg (v4 + 3))) (xs (Int32.toNatClampNeg (v4 + 4))) (xs (Int32.toNatClampNeg (v4 + 5))) (fun z24 J22 l23 => (if z16 = z24 then (∀ x27 : Int32, x27 = v4 + 6 → X23 x27 I12 R13 K14 n15 J22 l23 ((cu + 0))) else ((cu + 0) ≤ 229000 ∧ ((0 : Int32) = 1)))) J lw)))))))) (fun _ _ _ _ _ _ => False) I R K nx)))))))) else (if ((xs (Int32.toNatClampNeg v4)) &&& 63) = 1 then (vp_in (v4 + 1) L ∧ (cu + 1100 ≤ 229000 ∧ (wp_X0_house w x (xs (Int32.toNatClampNeg (v4 + 1))) o (fun z36 I32 R33 K34 n35 => (vp_in (v4 + 1) L ∧ ((cu + 1100) ≤ 229000 ∧ (wp_X3_house (xs (Int32.toNatClampNeg (v4 + 1))) (fun z40 J38 l39 => ((cu + 1100) ≤ 229000 ∧ (wp_X3_thrown (fun z44 J42 l43 => (if z44 = z36 then (if z36 = 0 then ((K34 o).1 = 25 ∧ (vp_in 0 (K34 o).2 ∧ (if (lg_cmp (Int64.ofNat (R33 o (Int32.toNatClampNeg 0))) (Int32.toInt64 z40)) = 0 then (∀ x52 : Int32, x52 = v4 + 6 → X23 x52 I32 R33 K34 n35 J42 l43 ((cu + 1100))) else ((cu + 1100) ≤ 229000 ∧ ((0 : Int32) = 1))))) else (∀ x48 : Int32, x48 = v4 + 6 → X23 x48 I32 R33 K34 n35 J42 l43 ((cu + 1100)))) else ((cu + 1100) ≤ 229000 ∧ ((0 : Int32) = 1)))) J38 l39))) J lw)))) (fun _ _ _ _ _ _ => False) I R K nx))) else (if ((xs (Int32.toNatClampNeg v4)) &&& 63) = 2 then ((K x).1 = 1 ∧ (cu + 0 ≤ 229000 ∧ (wp_X1_fault w x (fun z62 I58 R59 K60 n61 => ((cu + 0) ≤ 229000 ∧ (wp_X3_fault (fun z65 J63 l64 => (if z62 = z65 then (∀ x68 : Int32, x68 = v4 + 6 → X23 x68 I58 R59 K60 n61 J63 l64 ((cu + 0))) else ((cu + 0) ≤ 229000 ∧ ((0 : Int32) = 1)))) J lw))) (fun _ _ _ _ _ _ => False) I R K nx))) else (if ((xs (Int32.toNatClampNeg v4)) &&& 63) = 3 then (vp_in (v4 + 1) L ∧ (cu + 1 ≤ 229000 ∧ (wp_X0_count w x (xs (Int32.toNatClampNeg (v4 + 1))) o (fun z77 I73 R74 K75 n76 => (vp_in (v4 + 1) L ∧ ((cu + 1) ≤ 229000 ∧ (wp_X3_count (xs (Int32.toNatClampNeg (v4 + 1))) (fun z81 J79 l80 => ((cu + 1) ≤ 229000 ∧ (wp_X3_thrown (fun z85 J83 l84 => (if z85 = z77 then (if z77 = 0 then ((K75 o).1 = 25 ∧ (vp_in 0 (K75 o).2 ∧ (if (lg_cmp (Int64.ofNat (R74 o (Int32.toNatClampNeg 0))) (Int32.toInt64 z81)) = 0 then (∀ x93 : Int32, x93 = v4 + 6 → X23 x93 I73 R74 K75 n76 J83 l84 ((cu + 1))) else ((cu + 1) ≤ 229000 ∧ ((0 : Int32) = 1))))) else (∀ x89 : Int32, x89 = v4 + 6 → X23 x89 I73 R74 K75 n76 J83 l84 ((cu + 1)))) else ((cu + 1) ≤ 229000 ∧ ((0 : Int32) = 1)))) J79 l80))) J lw)))) (fun _ _ _ _ _ _ => False) I R K nx))) else (if ((xs (Int32.toNatClampNeg v4)) &&& 63) = 4 then (vp_in (v4 + 1) L ∧ (vp_in (v4 + 2) L ∧ (cu + 2 ≤ 229000 ∧ (wp_X0_room w x (xs (Int32.toNatClampNeg (v4 + 1))) (xs (Int32.toNatClampNeg (v4 + 2))) o (fun z104 I100 R101 K102 n103 => (vp_in (v4 + 1) L ∧ (vp_in (v4 + 2) L ∧ ((cu + 2) ≤ 229000 ∧ (wp_X3_room (xs (Int32.toNatClampNeg (v4 + 1))) (xs (Int32.toNatClampNeg (v4 + 2))) (fun z109 J107 l108 => ((cu + 2) ≤ 229000 ∧ (wp_X3_thrown (fun z113 J111 l112 => (if z113 = z104 then (if z104 = 0 then ((K102 o).1 = 25 ∧ (vp_in 0 (K102 o).2 ∧ (if (lg_cmp (Int64.ofNat (R101 o (Int32.toNatClampNeg 0))) (Int32.toInt64 z109)) = 0 then (∀ x121 : Int32, x121 = v4 + 6 → X23 x121 I100 R101 K102 n103 J111 l112 ((cu + 2))) else ((cu + 2) ≤ 229000 ∧ ((0 : Int32) = 1))))) else (∀ x117 : Int32, x117 = v4 + 6 → X23 x117 I100 R101 K102 n103 J111 l112 ((cu + 2)))) else ((cu + 2) ≤ 229000 ∧ ((0 : Int32) = 1)))) J107 l108))) J lw))))) (fun _ _ _ _ _ _ => False) I R K nx)))) else (if ((xs (Int32.toNatClampNeg v4)) &&& 63) = 5 then (vp_in (v4 + 1) L ∧ (vp_in (v4 + 2) L ∧ (cu + 2 ≤ 229000 ∧ (wp_X0_lodger w x (xs (Int32.toNatClampNeg (v4 + 1))) (xs (Int32.toNatClampNeg (v4 + 2))) o (fun z132 I128 R129 K130 n131 => (vp_in (v4 + 1) L ∧ (vp_in (v4 + 2) L ∧ ((cu + 2) ≤ 229000 ∧ (wp_X3_lodger (xs (Int32.toNatClampNeg (v4 + 1))) (xs (Int32.toNatClampNeg (v4 + 2))) (fun z137 J135 l136 => ((cu + 2) ≤ 229000 ∧ (wp_X3_thrown (fun z141 J139 l140 => (if z141 = z132 then (if z132 = 0 then ((K130 o).1 = 25 ∧ (vp_in 0 (K130 o).2 ∧ (if (lg_cmp (Int64.ofNat (R129 o (Int32.toNatClampNeg 0))) (Int32.toInt64 z137)) = 0 then (∀ x149 : Int32, x149 = v4 + 6 → X23 x149 I128 R129 K130 n131 J139 l140 ((cu + 2))) else ((cu + 2) ≤ 229000 ∧ ((0 : Int32) = 1))))) else (∀ x145 : Int32, x145 = v4 + 6 → X23 x145 I128 R129 K130 n131 J139 l140 ((cu + 2)))) else ((cu + 2) ≤ 229000 ∧ ((0 : Int32) = 1)))) J135 l136))) J lw))))) (fun _ _ _ _ _ _ => False) I R K nx)))) else (if ((xs (Int32.toNatClampNeg v4)) &&& 63) = 6 then (vp_in (v4 + 1) L ∧ (vp_in (v4 + 2) L ∧ (vp_in (v4 + 3) L ∧ (cu + 4 ≤ 229000 ∧ (wp_X0_may w x (xs (Int32.toNatClampNeg (v4 + 1))) (xs (Int32.toNatClampNeg (v4 + 2))) (xs (Int32.toNatClampNeg (v4 + 3))) o (fun z161 I157 R158 K159 n160 => (vp_in (v4 + 1) L ∧ (vp_in (v4 + 2) L ∧ (vp_in (v4 + 3) L ∧ ((cu + 4) ≤ 229000 ∧ (wp_X3_may (xs (Int32.toNatClampNeg (v4 + 1))) (xs (Int32.toNatClampNeg (v4 + 2))) (xs (Int32.toNatClampNeg (v4 + 3))) (fun z167 J165 l166 => ((cu + 4) ≤ 229000 ∧ (wp_X3_thrown (fun z171 J169 l170 => (if z171 = z161 then (if z161 = 0 then ((K159 o).1 = 25 ∧ (vp_in 0 (K159 o).2 ∧ (if (lg_cmp (Int64.ofNat (R158 o (Int32.toNatClampNeg 0))) (Int32.toInt64 z167)) = 0 then (∀ x179 : Int32, x179 = v4 + 6 → X23 x179 I157 R158 K159 n160 J169 l170 ((cu + 4))) else ((cu + 4) ≤ 229000 ∧ ((0 : Int32) = 1))))) else (∀ x175 : Int32, x175 = v4 + 6 → X23 x175 I157 R158 K159 n160 J169 l170 ((cu + 4)))) else ((cu + 4) ≤ 229000 ∧ ((0 : Int32) = 1)))) J165 l166))) J lw)))))) (fun _ _ _ _ _ _ => False) I R K nx))))) else (if ((xs (Int32.toNatClampNeg v4)) &&& 63) = 7 then (vp_in (v4 + 1) L ∧ (vp_in (v4 + 2) L ∧ (cu + 2 ≤ 229000 ∧ (wp_X0_says w x (xs (Int32.toNatClampNeg (v4 + 1))) (xs (Int32.toNatClampNeg (v4 + 2))) o (fun z190 I186 R187 K188 n189 => (vp_in (v4 + 1) L ∧ (vp_in (v4 + 2) L ∧ ((cu + 2) ≤ 229000 ∧ (wp_X3_says (xs (Int32.toNatClampNeg (v4 + 1))) (xs (Int32.toNatClampNeg (v4 + 2))) (fun z195 J193 l194 => ((cu + 2) ≤ 229000 ∧ (wp_X3_thrown (fun z199 J197 l198 => (if z199 = z190 then (if z190 = 0 then ((K188 o).1 = 25 ∧ (vp_in 0 (K188 o).2 ∧ (if (lg_cmp (Int64.ofNat (R187 o (Int32.toNatClampNeg 0))) (Int32.toInt64 z195)) = 0 then (∀ x207 : Int32, x207 = v4 + 6 → X23 x207 I186 R187 K188 n189 J197 l198 ((cu + 2))) else ((cu + 2) ≤ 229000 ∧ ((0 : Int32) = 1))))) else (∀ x203 : Int32, x203 = v4 + 6 → X23 x203 I186 R187 K188 n189 J197 l198 ((cu + 2)))) else ((cu + 2) ≤ 229000 ∧ ((0 : Int32) = 1)))) J193 l194))) J lw))))) (fun _ _ _ _ _ _ => False) I R K nx)))) else (if ((xs (Int32.toNatClampNeg v4)) &&& 63) = 8 then (vp_in (v4 + 1) L ∧ (vp_in (v4 + 2) L ∧ (vp_in (v4 + 3) L ∧ (cu + 4 ≤ 229000 ∧ (wp_X0_lend w x (xs (Int32.toNatClampNeg (v4 + 1))) (xs (Int32.toNatClampNeg (v4 + 2))) (xs (Int32.toNatClampNeg (v4 + 3))) o (fun z219 I215 R216 K217 n218 => (vp_in (v4 + 1) L ∧ (vp_in (v4 + 2) L ∧ (vp_in (v4 + 3) L ∧ ((cu + 4) ≤ 229000 ∧ (wp_X3_lend (xs (Int32.toNatClampNeg (v4 + 1))) (xs (Int32.toNatClampNeg (v4 + 2))) (xs (Int32.toNatClampNeg (v4 + 3))) (fun z225 J223 l224 => ((cu + 4) ≤ 229000 ∧ (wp_X3_thrown (fun z229 J227 l228 => (if z229 = z219 then (if z219 = 0 then ((K217 o).1 = 25 ∧ (vp_in 0 (K217 o).2 ∧ (if (lg_cmp (Int64.ofNat (R216 o (Int32.toNatClampNeg 0))) (Int32.toInt64 z225)) = 0 then (∀ x237 : Int32, x237 = v4 + 6 → X23 x237 I215 R216 K217 n218 J227 l228 ((cu + 4))) else ((cu + 4) ≤ 229000 ∧ ((0 : Int32) = 1))))) else (∀ x233 : Int32, x233 = v4 + 6 → X23 x233 I215 R216 K217 n218 J227 l228 ((cu + 4)))) else ((cu + 4) ≤ 229000 ∧ ((0 : Int32) = 1)))) J223 l224))) J lw)))))) (fun _ _ _ _ _ _ => False) I R K nx))))) else (if ((xs (Int32.toNatClampNeg v4)) &&& 63) = 9 then ((K x).1 = 1 ∧ (cu + 0 ≤ 229000 ∧ (wp_X1_back w x (fun z247 I243 R244 K245 n246 => ((cu + 0) ≤ 229000 ∧ (wp_X3_back (fun z250 J248 l249 => (if z247 = z250 then (∀ x253 : Int32, x253 = v4 + 6 → X23 x253 I243 R244 K245 n246 J248 l249 ((cu + 0))) else ((cu + 0) ≤ 229000 ∧ ((0 : Int32) = 1)))) J lw))) (fun _ _ _ _ _ _ => False) I R K nx))) else (if ((xs (Int32.toNatClampNeg v4)) &&& 63) = 10 then (vp_in (v4 + 1) L ∧ ((K x).1 = 1 ∧ (cu + 150 ≤ 229000 ∧ (wp_X1_draw w x (xs (Int32.toNatClampNeg (v4 + 1))) (fun I259 R260 K261 n262 => (vp_in (v4 + 1) L ∧ ((cu + 150) ≤ 229000 ∧ (wp_X3_draw (xs (Int32.toNatClampNeg (v4 + 1))) (fun J265 l266 => (∀ x269 : Int32, x269 = v4 + 6 → X23 x269 I259 R260 K261 n262 J265 l266 ((cu + 150)))) J lw)))) (fun _ _ _ _ _ _ => False) I R K nx 0)))) else (if ((xs (Int32.toNatClampNeg v4)) &&& 63) = 11 then (vp_in (v4 + 1) L ∧ (vp_in (v4 + 2) L ∧ (cu + 2 ≤ 229000 ∧ (wp_X0_does w x (xs (Int32.toNatClampNeg (v4 + 1))) (xs (Int32.toNatClampNeg (v4 + 2))) o (fun z278 I274 R275 K276 n277 => (vp_in (v4 + 1) L ∧ (vp_in (v4 + 2) L ∧ ((cu + 2) ≤ 229000 ∧ (wp_X3_does (xs (Int32.toNatClampNeg (v4 + 1))) (xs (Int32.toNatClampNeg (v4 + 2))) (fun z283 J281 l282 => ((cu + 2) ≤ 229000 ∧ (wp_X3_thrown (fun z287 J285 l286 => (if z287 = z278 then (if z278 = 0 then ((K276 o).1 = 25 ∧ (vp_in 0 (K276 o).2 ∧ (if (lg_cmp (Int64.ofNat (R275 o (Int32.toNatClampNeg 0))) (Int32.toInt64 z283)) = 0 then (∀ x295 : Int32, x295 = v4 + 6 → X23 x295 I274 R275 K276 n277 J285 l286 ((cu + 2))) else ((cu + 2) ≤ 229000 ∧ ((0 : Int32) = 1))))) else (∀ x291 : Int32, x291 = v4 + 6 → X23 x291 I274 R275 K276 n277 J285 l286 ((cu + 2)))) else ((cu + 2) ≤ 229000 ∧ ((0 : Int32) = 1)))) J281 l282))) J lw))))) (fun _ _ _ _ _ _ => False) I R K nx)))) else (if ((xs (Int32.toNatClampNeg v4)) &&& 63) = 12 then (vp_in (v4 + 1) L ∧ (vp_in (v4 + 2) L ∧ (cu + 2 ≤ 229000 ∧ (wp_X0_sign w x (xs (Int32.toNatClampNeg (v4 + 1))) (xs (Int32.toNatClampNeg (v4 + 2))) o (fun z306 I302 R303 K304 n305 => (vp_in (v4 + 1) L ∧ (vp_in (v4 + 2) L ∧ ((cu + 2) ≤ 229000 ∧ (wp_X3_sign (xs (Int32.toNatClampNeg (v4 + 1))) (xs (Int32.toNatClampNeg (v4 + 2))) (fun z311 J309 l310 => ((cu + 2) ≤ 229000 ∧ (wp_X3_thrown (fun z315 J313 l314 => (if z315 = z306 then (if z306 = 0 then ((K304 o).1 = 25 ∧ (vp_in 0 (K304 o).2 ∧ (if (lg_cmp (Int64.ofNat (R303 o (Int32.toNatClampNeg 0))) (Int32.toInt64 z311)) = 0 then (∀ x323 : Int32, x323 = v4 + 6 → X23 x323 I302 R303 K304 n305 J313 l314 ((cu + 2))) else ((cu + 2) ≤ 229000 ∧ ((0 : Int32) = 1))))) else (∀ x319 : Int32, x319 = v4 + 6 → X23 x319 I302 R303 K304 n305 J313 l314 ((cu + 2)))) else ((cu + 2) ≤ 229000 ∧ ((0 : Int32) = 1)))) J309 l310))) J lw))))) (fun _ _ _ _ _ _ => False) I R K nx)))) else (if ((xs (Int32.toNatClampNeg v4)) &&& 63) = 13 then (vp_in (v4 + 1) L ∧ (vp_in (v4 + 2) L ∧ (vp_in (v4 + 3) L ∧ (cu + 3 ≤ 229000 ∧ (wp_X0_look w x (xs (Int32.toNatClampNeg (v4 + 1))) (xs (Int32.toNatClampNeg (v4 + 2))) (xs (Int32.toNatClampNeg (v4 + 3))) o (fun z335 I331 R332 K333 n334 => (vp_in (v4 + 1) L ∧ (vp_in (v4 + 2) L ∧ (vp_in (v4 + 3) L ∧ ((cu + 3) ≤ 229000 ∧ (wp_X3_look (xs (Int32.toNatClampNeg (v4 + 1))) (xs (Int32.toNatClampNeg (v4 + 2))) (xs (Int32.toNatClampNeg (v4 + 3))) (fun z341 J339 l340 => ((cu + 3) ≤ 229000 ∧ (wp_X3_thrown (fun z345 J343 l344 => (if z345 = z335 then (if z335 = 0 then ((K333 o).1 = 25 ∧ (vp_in 0 (K333 o).2 ∧ (if (lg_cmp (Int64.ofNat (R332 o (Int32.toNatClampNeg 0))) (Int32.toInt64 z341)) = 0 then (∀ x353 : Int32, x353 = v4 + 6 → X23 x353 I331 R332 K333 n334 J343 l344 ((cu + 3))) else ((cu + 3) ≤ 229000 ∧ ((0 : Int32) = 1))))) else (∀ x349 : Int32, x349 = v4 + 6 → X23 x349 I331 R332 K333 n334 J343 l344 ((cu + 3)))) else ((cu + 3) ≤ 229000 ∧ ((0 : Int32) = 1)))) J339 l340))) J lw)))))) (fun _ _ _ _ _ _ => False) I R K nx))))) else (if ((xs (Int32.toNatClampNeg v4)) &&& 63) = 14 then (vp_in (v4 + 1) L ∧ (vp_in (v4 + 2) L ∧ (cu + 2 ≤ 229000 ∧ (wp_X0_theft w x (xs (Int32.toNatClampNeg (v4 + 1))) (xs (Int32.toNatClampNeg (v4 + 2))) o (fun z364 I360 R361 K362 n363 => (vp_in (v4 + 1) L ∧ (vp_in (v4 + 2) L ∧ ((cu + 2) ≤ 229000 ∧ (wp_X3_theft (xs (Int32.toNatClampNeg (v4 + 1))) (xs (Int32.toNatClampNeg (v4 + 2))) (fun z369 J367 l368 => ((cu + 2) ≤ 229000 ∧ (wp_X3_thrown (fun z373 J371 l372 => (if z373 = z364 then (if z364 = 0 then ((K362 o).1 = 25 ∧ (vp_in 0 (K362 o).2 ∧ (if (lg_cmp (Int64.ofNat (R361 o (Int32.toNatClampNeg 0))) (Int32.toInt64 z369)) = 0 then (∀ x381 : Int32, x381 = v4 + 6 → X23 x381 I360 R361 K362 n363 J371 l372 ((cu + 2))) else ((cu + 2) ≤ 229000 ∧ ((0 : Int32) = 1))))) else (∀ x377 : Int32, x377 = v4 + 6 → X23 x377 I360 R361 K362 n363 J371 l372 ((cu + 2)))) else ((cu + 2) ≤ 229000 ∧ ((0 : Int32) = 1)))) J367 l368))) J lw))))) (fun _ _ _ _ _ _ => False) I R K nx)))) else (if ((xs (Int32.toNatClampNeg v4)) &&& 63) = 15 then (vp_in (v4 + 1) L ∧ (vp_in (v4 + 2) L ∧ (vp_in (v4 + 3) L ∧ (cu + 2 ≤ 229000 ∧ (wp_X0_see w x (xs (Int32.toNatClampNeg (v4 + 1))) (xs (Int32.toNatClampNeg (v4 + 2))) (xs (Int32.toNatClampNeg (v4 + 3))) o (fun z393 I389 R390 K391 n392 => (vp_in (v4 + 1) L ∧ (vp_in (v4 + 2) L ∧ (vp_in (v4 + 3) L ∧ ((cu + 2) ≤ 229000 ∧ (wp_X3_see (xs (Int32.toNatClampNeg (v4 + 1))) (xs (Int32.toNatClampNeg (v4 + 2))) (xs (Int32.toNatClampNeg (v4 + 3))) (fun z399 J397 l398 => ((cu + 2) ≤ 229000 ∧ (wp_X3_thrown (fun z403 J401 l402 => (if z403 = z393 then (if z393 = 0 then ((K391 o).1 = 25 ∧ (vp_in 0 (K391 o).2 ∧ (if (lg_cmp (Int64.ofNat (R390 o (Int32.toNatClampNeg 0))) (Int32.toInt64 z399)) = 0 then (∀ x411 : Int32, x411 = v4 + 6 → X23 x411 I389 R390 K391 n392 J401 l402 ((cu + 2))) else ((cu + 2) ≤ 229000 ∧ ((0 : Int32) = 1))))) else (∀ x407 : Int32, x407 = v4 + 6 → X23 x407 I389 R390 K391 n392 J401 l402 ((cu + 2)))) else ((cu + 2) ≤ 229000 ∧ ((0 : Int32) = 1)))) J397 l398))) J lw)))))) (fun _ _ _ _ _ _ => False) I R K nx))))) else (if ((xs (Int32.toNatClampNeg v4)) &&& 63) = 16 then ((K x).1 = 1 ∧ (cu + 0 ≤ 229000 ∧ (wp_X1_forget w x (fun z421 I417 R418 K419 n420 => ((cu + 0) ≤ 229000 ∧ (wp_X3_forget (fun z424 J422 l423 => (if z421 = z424 then (∀ x427 : Int32, x427 = v4 + 6 → X23 x427 I417 R418 K419 n420 J422 l423 ((cu + 0))) else ((cu + 0) ≤ 229000 ∧ ((0 : Int32) = 1)))) J lw))) (fun _ _ _ _ _ _ => False) I R K nx))) else (if ((xs (Int32.toNatClampNeg v4)) &&& 63) = 17 then ((K x).1 = 1 ∧ (cu + 25 ≤ 229000 ∧ (wp_X1_cases w x (fun z436 I432 R433 K434 n435 => ((cu + 25) ≤ 229000 ∧ (wp_X3_cases (fun z439 J437 l438 => (if z436 = z439 then (∀ x442 : Int32, x442 = v4 + 6 → X23 x442 I432 R433 K434 n435 J437 l438 ((cu + 25))) else ((cu + 25) ≤ 229000 ∧ ((0 : Int32) = 1)))) J lw))) (fun _ _ _ _ _ _ => False) I R K nx))) else (if ((xs (Int32.toNatClampNeg v4)) &&& 63) = 18 then (vp_in (v4 + 1) L ∧ (vp_in (v4 + 2) L ∧ (cu + 27 ≤ 229000 ∧ (wp_X0_inCase w x (xs (Int32.toNatClampNeg (v4 + 1))) (xs (Int32.toNatClampNeg (v4 + 2))) o (fun z452 I448 R449 K450 n451 => (vp_in (v4 + 1) L ∧ (vp_in (v4 + 2) L ∧ ((cu + 27) ≤ 229000 ∧ (wp_X3_inCase (xs (Int32.toNatClampNeg (v4 + 1))) (xs (Int32.toNatClampNeg (v4 + 2))) (fun z457 J455 l456 => ((cu + 27) ≤ 229000 ∧ (wp_X3_thrown (fun z461 J459 l460 => (if z461 = z452 then (if z452 = 0 then ((K450 o).1 = 25 ∧ (vp_in 0 (K450 o).2 ∧ (if (lg_cmp (Int64.ofNat (R449 o (Int32.toNatClampNeg 0))) (Int32.toInt64 z457)) = 0 then (∀ x469 : Int32, x469 = v4 + 6 → X23 x469 I448 R449 K450 n451 J459 l460 ((cu + 27))) else ((cu + 27) ≤ 229000 ∧ ((0 : Int32) = 1))))) else (∀ x465 : Int32, x465 = v4 + 6 → X23 x465 I448 R449 K450 n451 J459 l460 ((cu + 27)))) else ((cu + 27) ≤ 229000 ∧ ((0 : Int32) = 1)))) J455 l456))) J lw))))) (fun _ _ _ _ _ _ => False) I R K nx)))) else (if ((xs (Int32.toNatClampNeg v4)) &&& 63) = 19 then (vp_in (v4 + 1) L ∧ (cu + 26 ≤ 229000 ∧ (wp_X0_sure w x (xs (Int32.toNatClampNeg (v4 + 1))) o (fun z479 I475 R476 K477 n478 => (vp_in (v4 + 1) L ∧ ((cu + 26) ≤ 229000 ∧ (wp_X3_sure (xs (Int32.toNatClampNeg (v4 + 1))) (fun z483 J481 l482 => ((cu + 26) ≤ 229000 ∧ (wp_X3_thrown (fun z487 J485 l486 => (if z487 = z479 then (if z479 = 0 then ((K477 o).1 = 25 ∧ (vp_in 0 (K477 o).2 ∧ (if (lg_cmp (Int64.ofNat (R476 o (Int32.toNatClampNeg 0))) (Int32.toInt64 z483)) = 0 then (∀ x495 : Int32, x495 = v4 + 6 → X23 x495 I475 R476 K477 n478 J485 l486 ((cu + 26))) else ((cu + 26) ≤ 229000 ∧ ((0 : Int32) = 1))))) else (∀ x491 : Int32, x491 = v4 + 6 → X23 x491 I475 R476 K477 n478 J485 l486 ((cu + 26)))) else ((cu + 26) ≤ 229000 ∧ ((0 : Int32) = 1)))) J481 l482))) J lw)))) (fun _ _ _ _ _ _ => False) I R K nx))) else (if ((xs (Int32.toNatClampNeg v4)) &&& 63) = 20 then (vp_in (v4 + 1) L ∧ (cu + 26 ≤ 229000 ∧ (wp_X0_where w x (xs (Int32.toNatClampNeg (v4 + 1))) o (fun z505 I501 R502 K503 n504 => (vp_in (v4 + 1) L ∧ ((cu + 26) ≤ 229000 ∧ (wp_X3_where (xs (Int32.toNatClampNeg (v4 + 1))) (fun z509 J507 l508 => ((cu + 26) ≤ 229000 ∧ (wp_X3_thrown (fun z513 J511 l512 => (if z513 = z505 then (if z505 = 0 then ((K503 o).1 = 25 ∧ (vp_in 0 (K503 o).2 ∧ (if (lg_cmp (Int64.ofNat (R502 o (Int32.toNatClampNeg 0))) (Int32.toInt64 z509)) = 0 then (∀ x521 : Int32, x521 = v4 + 6 → X23 x521 I501 R502 K503 n504 J511 l512 ((cu + 26))) else ((cu + 26) ≤ 229000 ∧ ((0 : Int32) = 1))))) else (∀ x517 : Int32, x517 = v4 + 6 → X23 x517 I501 R502 K503 n504 J511 l512 ((cu + 26)))) else ((cu + 26) ≤ 229000 ∧ ((0 : Int32) = 1)))) J507 l508))) J lw)))) (fun _ _ _ _ _ _ => False) I R K nx))) else (if ((xs (Int32.toNatClampNeg v4)) &&& 63) = 21 then (vp_in (v4 + 1) L ∧ (vp_in (v4 + 2) L ∧ (vp_in (v4 + 3) L ∧ (cu + 103 ≤ 229000 ∧ (wp_X0_misled w x (xs (Int32.toNatClampNeg (v4 + 1))) (xs (Int32.toNatClampNeg (v4 + 2))) (xs (Int32.toNatClampNeg (v4 + 3))) o (fun z533 I529 R530 K531 n532 => (vp_in (v4 + 1) L ∧ (vp_in (v4 + 2) L ∧ (vp_in (v4 + 3) L ∧ ((cu + 103) ≤ 229000 ∧ (wp_X3_misled (xs (Int32.toNatClampNeg (v4 + 1))) (xs (Int32.toNatClampNeg (v4 + 2))) (xs (Int32.toNatClampNeg (v4 + 3))) (fun z539 J537 l538 => ((cu + 103) ≤ 229000 ∧ (wp_X3_thrown (fun z543 J541 l542 => (if z543 = z533 then (if z533 = 0 then ((K531 o).1 = 25 ∧ (vp_in 0 (K531 o).2 ∧ (if (lg_cmp (Int64.ofNat (R530 o (Int32.toNatClampNeg 0))) (Int32.toInt64 z539)) = 0 then (∀ x551 : Int32, x551 = v4 + 6 → X23 x551 I529 R530 K531 n532 J541 l542 ((cu + 103))) else ((cu + 103) ≤ 229000 ∧ ((0 : Int32) = 1))))) else (∀ x547 : Int32, x547 = v4 + 6 → X23 x547 I529 R530 K531 n532 J541 l542 ((cu + 103)))) else ((cu + 103) ≤ 229000 ∧ ((0 : Int32) = 1)))) J537 l538))) J lw)))))) (fun _ _ _ _ _ _ => False) I R K nx))))) else (if ((xs (Int32.toNatClampNeg v4)) &&& 63) = 22 then (vp_in (v4 + 1) L ∧ (vp_in (v4 + 2) L ∧ (cu + 3 ≤ 229000 ∧ (wp_X0_chance w x (xs (Int32.toNatClampNeg (v4 + 1))) (xs (Int32.toNatClampNeg (v4 + 2))) o (fun z562 I558 R559 K560 n561 => (vp_in (v4 + 1) L ∧ (vp_in (v4 + 2) L ∧ ((cu + 3) ≤ 229000 ∧ (wp_X3_chance (xs (Int32.toNatClampNeg (v4 + 1))) (xs (Int32.toNatClampNeg (v4 + 2))) (fun z567 J565 l566 => ((cu + 3) ≤ 229000 ∧ (wp_X3_thrown (fun z571 J569 l570 => (if z571 = z562 then (if z562 = 0 then ((K560 o).1 = 25 ∧ (vp_in 0 (K560 o).2 ∧ (if (lg_cmp (Int64.ofNat (R559 o (Int32.toNatClampNeg 0))) (Int32.toInt64 z567)) = 0 then (∀ x579 : Int32, x579 = v4 + 6 → X23 x579 I558 R559 K560 n561 J569 l570 ((cu + 3))) else ((cu + 3) ≤ 229000 ∧ ((0 : Int32) = 1))))) else (∀ x575 : Int32, x575 = v4 + 6 → X23 x575 I558 R559 K560 n561 J569 l570 ((cu + 3)))) else ((cu + 3) ≤ 229000 ∧ ((0 : Int32) = 1)))) J565 l566))) J lw))))) (fun _ _ _ _ _ _ => False) I R K nx)))) else (if ((xs (Int32.toNatClampNeg v4)) &&& 63) = 23 then (vp_in (v4 + 1) L ∧ (vp_in (v4 + 2) L ∧ (vp_in (v4 + 3) L ∧ (cu + 70 ≤ 229000 ∧ (wp_X0_round w x (xs (Int32.toNatClampNeg (v4 + 1))) (xs (Int32.toNatClampNeg (v4 + 2))) (xs (Int32.toNatClampNeg (v4 + 3))) o (fun z591 I587 R588 K589 n590 => (vp_in (v4 + 1) L ∧ (vp_in (v4 + 2) L ∧ (vp_in (v4 + 3) L ∧ ((cu + 70) ≤ 229000 ∧ (wp_X3_round (xs (Int32.toNatClampNeg (v4 + 1))) (xs (Int32.toNatClampNeg (v4 + 2))) (xs (Int32.toNatClampNeg (v4 + 3))) (fun z597 J595 l596 => ((cu + 70) ≤ 229000 ∧ (wp_X3_thrown (fun z601 J599 l600 => (if z601 = z591 then (if z591 = 0 then ((K589 o).1 = 25 ∧ (vp_in 0 (K589 o).2 ∧ (if (lg_cmp (Int64.ofNat (R588 o (Int32.toNatClampNeg 0))) (Int32.toInt64 z597)) = 0 then (∀ x609 : Int32, x609 = v4 + 6 → X23 x609 I587 R588 K589 n590 J599 l600 ((cu + 70))) else ((cu + 70) ≤ 229000 ∧ ((0 : Int32) = 1))))) else (∀ x605 : Int32, x605 = v4 + 6 → X23 x605 I587 R588 K589 n590 J599 l600 ((cu + 70)))) else ((cu + 70) ≤ 229000 ∧ ((0 : Int32) = 1)))) J595 l596))) J lw)))))) (fun _ _ _ _ _ _ => False) I R K nx))))) else (if ((xs (Int32.toNatClampNeg v4)) &&& 63) = 24 then (vp_in (v4 + 1) L ∧ (vp_in (v4 + 2) L ∧ (cu + 2 ≤ 229000 ∧ (wp_X0_path w x (xs (Int32.toNatClampNeg (v4 + 1))) (xs (Int32.toNatClampNeg (v4 + 2))) o (fun z620 I616 R617 K618 n619 => (vp_in (v4 + 1) L ∧ (vp_in (v4 + 2) L ∧ ((cu + 2) ≤ 229000 ∧ (wp_X3_path (xs (Int32.toNatClampNeg (v4 + 1))) (xs (Int32.toNatClampNeg (v4 + 2))) (fun z625 J623 l624 => ((cu + 2) ≤ 229000 ∧ (wp_X3_thrown (fun z629 J627 l628 => (if z629 = z620 then (if z620 = 0 then ((K618 o).1 = 25 ∧ (vp_in 0 (K618 o).2 ∧ (if (lg_cmp (Int64.ofNat (R617 o (Int32.toNatClampNeg 0))) (Int32.toInt64 z625)) = 0 then (∀ x637 : Int32, x637 = v4 + 6 → X23 x637 I616 R617 K618 n619 J627 l628 ((cu + 2))) else ((cu + 2) ≤ 229000 ∧ ((0 : Int32) = 1))))) else (∀ x633 : Int32, x633 = v4 + 6 → X23 x633 I616 R617 K618 n619 J627 l628 ((cu + 2)))) else ((cu + 2) ≤ 229000 ∧ ((0 : Int32) = 1)))) J623 l624))) J lw))))) (fun _ _ _ _ _ _ => False) I R K nx)))) else (if ((xs (Int32.toNatClampNeg v4)) &&& 63) = 25 then (vp_in (v4 + 1) L ∧ (vp_in (v4 + 2) L ∧ (vp_in (v4 + 3) L ∧ (cu + 24 ≤ 229000 ∧ (wp_X0_rests w x (xs (Int32.toNatClampNeg (v4 + 1))) (xs (Int32.toNatClampNeg (v4 + 2))) (xs (Int32.toNatClampNeg (v4 + 3))) o (fun z649 I645 R646 K647 n648 => (vp_in (v4 + 1) L ∧ (vp_in (v4 + 2) L ∧ (vp_in (v4 + 3) L ∧ ((cu + 24) ≤ 229000 ∧ (wp_X3_rests (xs (Int32.toNatClampNeg (v4 + 1))) (xs (Int32.toNatClampNeg (v4 + 2))) (xs (Int32.toNatClampNeg (v4 + 3))) (fun z655 J653 l654 => ((cu + 24) ≤ 229000 ∧ (wp_X3_thrown (fun z659 J657 l658 => (if z659 = z649 then (if z649 = 0 then ((K647 o).1 = 25 ∧ (vp_in 0 (K647 o).2 ∧ (if (lg_cmp (Int64.ofNat (R646 o (Int32.toNatClampNeg 0))) (Int32.toInt64 z655)) = 0 then (∀ x667 : Int32, x667 = v4 + 6 → X23 x667 I645 R646 K647 n648 J657 l658 ((cu + 24))) else ((cu + 24) ≤ 229000 ∧ ((0 : Int32) = 1))))) else (∀ x663 : Int32, x663 = v4 + 6 → X23 x663 I645 R646 K647 n648 J657 l658 ((cu + 24)))) else ((cu + 24) ≤ 229000 ∧ ((0 : Int32) = 1)))) J653 l654))) J lw)))))) (fun _ _ _ _ _ _ => False) I R K nx))))) else (if ((xs (Int32.toNatClampNeg v4)) &&& 63) = 26 then (vp_in (v4 + 1) L ∧ (vp_in (v4 + 2) L ∧ (cu + 4 ≤ 229000 ∧ (wp_X0_fewest w x (xs (Int32.toNatClampNeg (v4 + 1))) (xs (Int32.toNatClampNeg (v4 + 2))) o (fun z678 I674 R675 K676 n677 => (vp_in (v4 + 1) L ∧ (vp_in (v4 + 2) L ∧ ((cu + 4) ≤ 229000 ∧ (wp_X3_fewest (xs (Int32.toNatClampNeg (v4 + 1))) (xs (Int32.toNatClampNeg (v4 + 2))) (fun z683 J681 l682 => ((cu + 4) ≤ 229000 ∧ (wp_X3_thrown (fun z687 J685 l686 => (if z687 = z678 then (if z678 = 0 then ((K676 o).1 = 25 ∧ (vp_in 0 (K676 o).2 ∧ (if (lg_cmp (Int64.ofNat (R675 o (Int32.toNatClampNeg 0))) (Int32.toInt64 z683)) = 0 then (∀ x695 : Int32, x695 = v4 + 6 → X23 x695 I674 R675 K676 n677 J685 l686 ((cu + 4))) else ((cu + 4) ≤ 229000 ∧ ((0 : Int32) = 1))))) else (∀ x691 : Int32, x691 = v4 + 6 → X23 x691 I674 R675 K676 n677 J685 l686 ((cu + 4)))) else ((cu + 4) ≤ 229000 ∧ ((0 : Int32) = 1)))) J681 l682))) J lw))))) (fun _ _ _ _ _ _ => False) I R K nx)))) else (if ((xs (Int32.toNatClampNeg v4)) &&& 63) = 27 then (vp_in (v4 + 1) L ∧ (cu + 2 ≤ 229000 ∧ (wp_X0_lender w x (xs (Int32.toNatClampNeg (v4 + 1))) o (fun z705 I701 R702 K703 n704 => (vp_in (v4 + 1) L ∧ ((cu + 2) ≤ 229000 ∧ (wp_X3_lender (xs (Int32.toNatClampNeg (v4 + 1))) (fun z709 J707 l708 => ((cu + 2) ≤ 229000 ∧ (wp_X3_thrown (fun z713 J711 l712 => (if z713 = z705 then (if z705 = 0 then ((K703 o).1 = 25 ∧ (vp_in 0 (K703 o).2 ∧ (if (lg_cmp (Int64.ofNat (R702 o (Int32.toNatClampNeg 0))) (Int32.toInt64 z709)) = 0 then (∀ x721 : Int32, x721 = v4 + 6 → X23 x721 I701 R702 K703 n704 J711 l712 ((cu + 2))) else ((cu + 2) ≤ 229000 ∧ ((0 : Int32) = 1))))) else (∀ x717 : Int32, x717 = v4 + 6 → X23 x717 I701 R702 K703 n704 J711 l712 ((cu + 2)))) else ((cu + 2) ≤ 229000 ∧ ((0 : Int32) = 1)))) J707 l708))) J lw)))) (fun _ _ _ _ _ _ => False) I R K nx))) else (if ((xs (Int32.toNatClampNeg v4)) &&& 63) = 28 then (vp_in (v4 + 1) L ∧ (vp_in (v4 + 2) L ∧ (cu + 3 ≤ 229000 ∧ (wp_X0_kinds w x (xs (Int32.toNatClampNeg (v4 + 1))) (xs (Int32.toNatClampNeg (v4 + 2))) o (fun z732 I728 R729 K730 n731 => (vp_in (v4 + 1) L ∧ (vp_in (v4 + 2) L ∧ ((cu + 3) ≤ 229000 ∧ (wp_X3_kinds (xs (Int32.toNatClampNeg (v4 + 1))) (xs (Int32.toNatClampNeg (v4 + 2))) (fun z737 J735 l736 => ((cu + 3) ≤ 229000 ∧ (wp_X3_thrown (fun z741 J739 l740 => (if z741 = z732 then (if z732 = 0 then ((K730 o).1 = 25 ∧ (vp_in 0 (K730 o).2 ∧ (if (lg_cmp (Int64.ofNat (R729 o (Int32.toNatClampNeg 0))) (Int32.toInt64 z737)) = 0 then (∀ x749 : Int32, x749 = v4 + 6 → X23 x749 I728 R729 K730 n731 J739 l740 ((cu + 3))) else ((cu + 3) ≤ 229000 ∧ ((0 : Int32) = 1))))) else (∀ x745 : Int32, x745 = v4 + 6 → X23 x745 I728 R729 K730 n731 J739 l740 ((cu + 3)))) else ((cu + 3) ≤ 229000 ∧ ((0 : Int32) = 1)))) J735 l736))) J lw))))) (fun _ _ _ _ _ _ => False) I R K nx)))) else (if ((xs (Int32.toNatClampNeg v4)) &&& 63) = 29 then (vp_in (v4 + 1) L ∧ (vp_in (v4 + 2) L ∧ (cu + 4 ≤ 229000 ∧ (wp_X0_word w x (xs (Int32.toNatClampNeg (v4 + 1))) (xs (Int32.toNatClampNeg (v4 + 2))) o (fun z760 I756 R757 K758 n759 => (vp_in (v4 + 1) L ∧ (vp_in (v4 + 2) L ∧ ((cu + 4) ≤ 229000 ∧ (wp_X3_word (xs (Int32.toNatClampNeg (v4 + 1))) (xs (Int32.toNatClampNeg (v4 + 2))) (fun z765 J763 l764 => ((cu + 4) ≤ 229000 ∧ (wp_X3_thrown (fun z769 J767 l768 => (if z769 = z760 then (if z760 = 0 then ((K758 o).1 = 25 ∧ (vp_in 0 (K758 o).2 ∧ (if (lg_cmp (Int64.ofNat (R757 o (Int32.toNatClampNeg 0))) (Int32.toInt64 z765)) = 0 then (∀ x777 : Int32, x777 = v4 + 6 → X23 x777 I756 R757 K758 n759 J767 l768 ((cu + 4))) else ((cu + 4) ≤ 229000 ∧ ((0 : Int32) = 1))))) else (∀ x773 : Int32, x773 = v4 + 6 → X23 x773 I756 R757 K758 n759 J767 l768 ((cu + 4)))) else ((cu + 4) ≤ 229000 ∧ ((0 : Int32) = 1)))) J763 l764))) J lw))))) (fun _ _ _ _ _ _ => False) I R K nx)))) else (if ((xs (Int32.toNatClampNeg v4)) &&& 63) = 30 then (vp_in (v4 + 1) L ∧ (vp_in (v4 + 2) L ∧ (vp_in (v4 + 3) L ∧ (cu + 3 ≤ 229000 ∧ (wp_X0_mend w x (xs (Int32.toNatClampNeg (v4 + 1))) (xs (Int32.toNatClampNeg (v4 + 2))) (xs (Int32.toNatClampNeg (v4 + 3))) o (fun z789 I785 R786 K787 n788 => (vp_in (v4 + 1) L ∧ (vp_in (v4 + 2) L ∧ (vp_in (v4 + 3) L ∧ ((cu + 3) ≤ 229000 ∧ (wp_X3_mend (xs (Int32.toNatClampNeg (v4 + 1))) (xs (Int32.toNatClampNeg (v4 + 2))) (xs (Int32.toNatClampNeg (v4 + 3))) (fun z795 J793 l794 => ((cu + 3) ≤ 229000 ∧ (wp_X3_thrown (fun z799 J797 l798 => (if z799 = z789 then (if z789 = 0 then ((K787 o).1 = 25 ∧ (vp_in 0 (K787 o).2 ∧ (if (lg_cmp (Int64.ofNat (R786 o (Int32.toNatClampNeg 0))) (Int32.toInt64 z795)) = 0 then (∀ x807 : Int32, x807 = v4 + 6 → X23 x807 I785 R786 K787 n788 J797 l798 ((cu + 3))) else ((cu + 3) ≤ 229000 ∧ ((0 : Int32) = 1))))) else (∀ x803 : Int32, x803 = v4 + 6 → X23 x803 I785 R786 K787 n788 J797 l798 ((cu + 3)))) else ((cu + 3) ≤ 229000 ∧ ((0 : Int32) = 1)))) J793 l794))) J lw)))))) (fun _ _ _ _ _ _ => False) I R K nx))))) else (if ((xs (Int32.toNatClampNeg v4)) &&& 63) = 31 then (vp_in (v4 + 1) L ∧ (vp_in (v4 + 2) L ∧ (vp_in (v4 + 3) L ∧ (vp_in (v4 + 4) L ∧ (vp_in (v4 + 5) L ∧ (cu + 5 ≤ 229000 ∧ (wp_X0_fire w x (xs (Int32.toNatClampNeg (v4 + 1))) (xs (Int32.toNatClampNeg (v4 + 2))) (xs (Int32.toNatClampNeg (v4 + 3))) (xs (Int32.toNatClampNeg (v4 + 4))) (xs (Int32.toNatClampNeg (v4 + 5))) o (fun z821 I817 R818 K819 n820 => (vp_in (v4 + 1) L ∧ (vp_in (v4 + 2) L ∧ (vp_in (v4 + 3) L ∧ (vp_in (v4 + 4) L ∧ (vp_in (v4 + 5) L ∧ ((cu + 5) ≤ 229000 ∧ (wp_X3_fire (xs (Int32.toNatClampNeg (v4 + 1))) (xs (Int32.toNatClampNeg (v4 + 2))) (xs (Int32.toNatClampNeg (v4 + 3))) (xs (Int32.toNatClampNeg (v4 + 4))) (xs (Int32.toNatClampNeg (v4 + 5))) (fun z829 J827 l828 => ((cu + 5) ≤ 229000 ∧ (wp_X3_thrown (fun z833 J831 l832 => (if z833 = z821 then (if z821 = 0 then ((K819 o).1 = 25 ∧ (vp_in 0 (K819 o).2 ∧ (if (lg_cmp (Int64.ofNat (R818 o (Int32.toNatClampNeg 0))) z829) = 0 then (∀ x841 : Int32, x841 = v4 + 6 → X23 x841 I817 R818 K819 n820 J831 l832 ((cu + 5))) else ((cu + 5) ≤ 229000 ∧ ((0 : Int32) = 1))))) else (∀ x837 : Int32, x837 = v4 + 6 → X23 x837 I817 R818 K819 n820 J831 l832 ((cu + 5)))) else ((cu + 5) ≤ 229000 ∧ ((0 : Int32) = 1)))) J827 l828))) J lw)))))))) (fun _ _ _ _ _ _ => False) I R K nx))))))) else (if ((xs (Int32.toNatClampNeg v4)) &&& 63) = 32 then ((K x).1 = 1 ∧ (cu + 21 ≤ 229000 ∧ (wp_X1_image w x (fun I847 R848 K849 n850 => ((cu + 21) ≤ 229000 ∧ (wp_X3_image (fun J852 l853 => (∀ x856 : Int32, x856 = v4 + 6 → X23 x856 I847 R848 K849 n850 J852 l853 ((cu + 21)))) J lw))) (fun _ _ _ _ _ _ => False) I R K nx))) else (if ((xs (Int32.toNatClampNeg v4)) &&& 63) = 33 then ((K x).1 = 1 ∧ (cu + 15 ≤ 229000 ∧ (wp_X1_restore w x (fun z864 I860 R861 K862 n863 => ((cu + 15) ≤ 229000 ∧ (wp_X3_restore (fun z867 J865 l866 => (if z864 = z867 then (∀ x870 : Int32, x870 = v4 + 6 → X23 x870 I860 R861 K862 n863 J865 l866 ((cu + 15))) else ((cu + 15) ≤ 229000 ∧ ((0 : Int32) = 1)))) J lw))) (fun _ _ _ _ _ _ => False) I R K nx))) else (∀ x872 : Int32, x872 = v4 + 6 → X23 x872 I R K nx J lw cu)))))))))))))))))))))))))))))))))))))
def wl_L_law_23 (w : CD) (xs : Nat → Int32) (L t b x o : Nat) (v4 : Int32) (I : MI) (R : MR) (K : MK) (nx : Nat) (J : Nat → Nat → Int32) (lw : Int64) (cu : Nat) : Prop := ∀ X23 : Int32 → MI → MR → MK → Nat → (Nat → Nat → Int32) → Int64 → Nat → Prop, (∀ v4 I R K nx J lw cu, wf_L_law_23 w xs L t b x o X23 v4 I R K nx J lw cu → X23 v4 I R K nx J lw cu) → X23 v4 I R K nx J lw cu
theorem wk_L_law_23 {g : Gm} {w : CD} {d : TD} (xs : Nat → Int32) (L t b x o : Nat) (B : BdL g w d xs L t b) (X23 : Int32 → MI → MR → MK → Nat → (Nat → Nat → Int32) → Int64 → Nat → Prop) (hX23 : ∀ v4 I R K nx J lw cu, X23 v4 I R K nx J lw cu → GJ g 8 (LLP w d t I R K nx J lw) (cu) (QL g) 23 [(0, rv (b + 1)), (1, rv x), (2, rv (t + 1)), (3, rv o), (4, .int v4)] []) (v4 : Int32) (I : MI) (R : MR) (K : MK) (nx : Nat) (J : Nat → Nat → Int32) (lw : Int64) (cu : Nat) (hw : wf_L_law_23 w xs L t b x o X23 v4 I R K nx J lw cu) : GJ g 8 (LLP w d t I R K nx J lw) (cu) (QL g) 23 [(0, rv (b + 1)), (1, rv x), (2, rv (t + 1)), (3, rv o), (4, .int v4)] [] := by
  unfold wf_L_law_23 at hw
  have C := B.1
  have hW := B.2.1
  refine gj_iload C dL_law_23 4 rfl ?_
  refine gj_aload_n C dL_law_25 0 rfl ?_
  refine lp_alen B dL_law_26 ?_
  refine gj_bipush (v := 6) C dL_law_27 rfl ?_
  refine gj_isub C dL_law_29 ?_
  refine gj_icmp_gt (tgt := 2209) C dL_law_30 rfl (fun c1 => ?_) (fun c1 => ?_)
  · have hw := it_t hw c1
    refine gj_iconst (v := 1) C dL_law_2209 rfl ?_
    obtain ⟨h2, hw⟩ := hw
    exact lp_ret B h2 hw dL_law_2210
  · have hw := it_f hw c1
    refine gj_aload_n C dL_law_33 0 rfl ?_
    refine gj_iload C dL_law_34 4 rfl ?_
    obtain ⟨h3, hw⟩ := hw
    refine lp_iald B h3 dL_law_36 ?_
    refine gj_bipush (v := 63) C dL_law_37 rfl ?_
    refine gj_iand C dL_law_39 ?_
    by_cases c4 : ((xs (Int32.toNatClampNeg v4)) &&& 63) = 0
    · have hw := it_t hw c4
      refine gj_tabIn (v := 0) (tgt := 192) C dL_law_40 c4 (by decide) (by decide) (by rfl) rfl ?_
      refine gj_aload_n C dL_law_192 1 rfl ?_
      refine gj_aload_n C dL_law_193 0 rfl ?_
      refine gj_iload C dL_law_194 4 rfl ?_
      refine gj_iconst (v := 1) C dL_law_196 rfl ?_
      refine gj_iadd C dL_law_197 ?_
      obtain ⟨h5, hw⟩ := hw
      refine lp_iald B h5 dL_law_198 ?_
      refine gj_aload_n C dL_law_199 0 rfl ?_
      refine gj_iload C dL_law_200 4 rfl ?_
      refine gj_iconst (v := 2) C dL_law_202 rfl ?_
      refine gj_iadd C dL_law_203 ?_
      obtain ⟨h6, hw⟩ := hw
      refine lp_iald B h6 dL_law_204 ?_
      refine gj_aload_n C dL_law_205 0 rfl ?_
      refine gj_iload C dL_law_206 4 rfl ?_
      refine gj_iconst (v := 3) C dL_law_208 rfl ?_
      refine gj_iadd C dL_law_209 ?_
      obtain ⟨h7, hw⟩ := hw
      refine lp_iald B h7 dL_law_210 ?_
      refine gj_aload_n C dL_law_211 0 rfl ?_
      refine gj_iload C dL_law_212 4 rfl ?_
      refine gj_iconst (v := 4) C dL_law_214 rfl ?_
      refine gj_iadd C dL_law_215 ?_
      obtain ⟨h8, hw⟩ := hw
      refine lp_iald B h8 dL_law_216 ?_
      refine gj_aload_n C dL_law_217 0 rfl ?_
      refine gj_iload C dL_law_218 4 rfl ?_
      refine gj_iconst (v := 5) C dL_law_220 rfl ?_
      refine gj_iadd C dL_law_221 ?_
      obtain ⟨h9, hw⟩ := hw
      refine lp_iald B h9 dL_law_222 ?_
      obtain ⟨h10, hw⟩ := hw
      obtain ⟨h11, hw⟩ := hw
      refine lp_enterC (fun H hT => ?_)
      refine tc_X0_99 C hW h10 hw (lrm B (Nat.le_of_ble_eq_true rfl) (Nat.le_of_ble_eq_true rfl) h11) B.2.2.2.2.1 (gc_rest (Nat.le_of_ble_eq_true rfl)) dL_law_223 (fun _ _ _ _ _ _ _ _ _ _ _ hf => hf.elim) (fun z16 I12 R13 K14 n15 hw => ?_)
      refine lp_leaveC B hT ?_
      refine gj_aload_n C dL_law_226 2 rfl ?_
      refine gj_aload_n C dL_law_227 0 rfl ?_
      refine gj_iload C dL_law_228 4 rfl ?_
      refine gj_iconst (v := 1) C dL_law_230 rfl ?_
      refine gj_iadd C dL_law_231 ?_
      obtain ⟨h17, hw⟩ := hw
      refine lp_iald B h17 dL_law_232 ?_
      refine gj_aload_n C dL_law_233 0 rfl ?_
      refine gj_iload C dL_law_234 4 rfl ?_
      refine gj_iconst (v := 2) C dL_law_236 rfl ?_
      refine gj_iadd C dL_law_237 ?_
      obtain ⟨h18, hw⟩ := hw
      refine lp_iald B h18 dL_law_238 ?_
      refine gj_aload_n C dL_law_239 0 rfl ?_
      refine gj_iload C dL_law_240 4 rfl ?_
      refine gj_iconst (v := 3) C dL_law_242 rfl ?_
      refine gj_iadd C dL_law_243 ?_
      obtain ⟨h19, hw⟩ := hw
      refine lp_iald B h19 dL_law_244 ?_
      refine gj_aload_n C dL_law_245 0 rfl ?_
      refine gj_iload C dL_law_246 4 rfl ?_
      refine gj_iconst (v := 4) C dL_law_248 rfl ?_
      refine gj_iadd C dL_law_249 ?_
      obtain ⟨h20, hw⟩ := hw
      refine lp_iald B h20 dL_law_250 ?_
      refine gj_aload_n C dL_law_251 0 rfl ?_
      refine gj_iload C dL_law_252 4 rfl ?_
      refine gj_iconst (v := 5) C dL_law_254 rfl ?_
      refine gj_iadd C dL_law_255 ?_
      obtain ⟨h21, hw⟩ := hw
      refine lp_iald B h21 dL_law_256 ?_
      obtain ⟨h25, hw⟩ := hw
      refine lp_enterT (fun H hC => ?_)
      refine tl_X3_feed B hw h25 (gc_rest (Nat.le_of_ble_eq_true rfl)) dL_law_257 (fun z24 J22 l23 hw => ?_)
      refine lp_leaveT B hC ?_
      refine gj_icmp_eq (tgt := 2203) C dL_law_260 rfl (fun c26 => ?_) (fun c26 => ?_)
      · have hw := it_t hw c26
        obtain ⟨x27, ex27⟩ : ∃ x27 : Int32, x27 = v4 + 6 := ⟨_, rfl⟩
        have hw := hw x27 ex27
        refine gj_iinc (lc' := [(4, .int x27), (0, rv (b + 1)), (1, rv x), (2, rv (t + 1)), (3, rv o)]) (w := 6) (v := x27) C dL_law_2203 4 rfl rfl ex27.symm (Nat.le_of_ble_eq_true rfl) (show lst1 _ 4 _ = _ by simp [lst1, rv_cat]) ?_
        refine gj_goto (tgt := 23) C dL_law_2206 rfl ?_
        refine gj_sub (lc' := [(0, rv (b + 1)), (1, rv x), (2, rv (t + 1)), (3, rv o), (4, .int x27)]) [1, 2, 3, 4, 0] rfl ?_
        exact hX23 _ _ _ _ _ _ _ _ hw
      · have hw := it_f hw c26
        refine gj_iconst (v := 0) C dL_law_263 rfl ?_
        obtain ⟨h28, hw⟩ := hw
        exact lp_ret B h28 hw dL_law_264
    have hw := it_f hw c4
    by_cases c29 : ((xs (Int32.toNatClampNeg v4)) &&& 63) = 1
    · have hw := it_t hw c29
      refine gj_tabIn (v := 1) (tgt := 265) C dL_law_40 c29 (by decide) (by decide) (by rfl) rfl ?_
      refine gj_aload_n C dL_law_265 1 rfl ?_
      refine gj_aload_n C dL_law_266 0 rfl ?_
      refine gj_iload C dL_law_267 4 rfl ?_
      refine gj_iconst (v := 1) C dL_law_269 rfl ?_
      refine gj_iadd C dL_law_270 ?_
      obtain ⟨h30, hw⟩ := hw
      refine lp_iald B h30 dL_law_271 ?_
      refine gj_aload_n C dL_law_272 3 rfl ?_
      obtain ⟨h31, hw⟩ := hw
      refine lp_enterC (fun H hT => ?_)
      refine tc_X0_104 C hW hw (lrm B (Nat.le_of_ble_eq_true rfl) (Nat.le_of_ble_eq_true rfl) h31) B.2.2.2.2.1 (gc_rest (Nat.le_of_ble_eq_true rfl)) dL_law_273 (fun _ _ _ _ _ _ _ _ _ _ _ hf => hf.elim) (fun z36 I32 R33 K34 n35 hw => ?_)
      refine lp_leaveC B hT ?_
      refine gj_istore (lc' := [(5, .int z36), (0, rv (b + 1)), (1, rv x), (2, rv (t + 1)), (3, rv o), (4, .int v4)]) C dL_law_276 (Nat.le_of_ble_eq_true rfl) rfl ?_
      refine gj_aload_n C dL_law_278 3 rfl ?_
      refine gj_aload_n C dL_law_279 1 rfl ?_
      refine gj_iload C dL_law_280 5 rfl ?_
      refine gj_iconst (v := 1) C dL_law_282 rfl ?_
      refine gj_iadd C dL_law_283 ?_
      obtain ⟨h37, hw⟩ := hw
      refine lp_iald B h37 dL_law_284 ?_
      obtain ⟨h41, hw⟩ := hw
      refine lp_enterT (fun H hC => ?_)
      refine tl_X3_house B hw h41 (gc_rest (Nat.le_of_ble_eq_true rfl)) dL_law_285 (fun z40 J38 l39 hw => ?_)
      refine lp_leaveT B hC ?_
      refine gj_istore (lc' := [(6, .int z40), (5, .int z36), (0, rv (b + 1)), (1, rv x), (2, rv (t + 1)), (3, rv o), (4, .int v4)]) C dL_law_288 (Nat.le_of_ble_eq_true rfl) rfl ?_
      refine gj_aload_n C dL_law_290 4 rfl ?_
      obtain ⟨h45, hw⟩ := hw
      refine lp_enterT (fun H hC => ?_)
      refine tl_X3_thrown B hw h45 (gc_rest (Nat.le_of_ble_eq_true rfl)) dL_law_291 (fun z44 J42 l43 hw => ?_)
      refine lp_leaveT B hC ?_
      refine gj_iload C dL_law_294 1 rfl ?_
      refine gj_icmp_eq (tgt := 301) C dL_law_296 rfl (fun c46 => ?_) (fun c46 => ?_)
      · have hw := it_t hw c46
        refine gj_iload C dL_law_301 1 rfl ?_
        refine gj_if_ne (tgt := 318) C dL_law_303 rfl (fun c47 => ?_) (fun c47 => ?_)
        · have hw := it_f hw c47
          refine gj_goto (tgt := 2203) C dL_law_318 rfl ?_
          obtain ⟨x48, ex48⟩ : ∃ x48 : Int32, x48 = v4 + 6 := ⟨_, rfl⟩
          have hw := hw x48 ex48
          refine gj_iinc (lc' := [(4, .int x48), (6, .int z40), (5, .int z36), (0, rv (b + 1)), (1, rv x), (2, rv (t + 1)), (3, rv o)]) (w := 6) (v := x48) C dL_law_2203 6 rfl rfl ex48.symm (Nat.le_of_ble_eq_true rfl) (show lst1 _ 4 _ = _ by simp [lst1, rv_cat]) ?_
          refine gj_goto (tgt := 23) C dL_law_2206 rfl ?_
          refine gj_sub (lc' := [(0, rv (b + 1)), (1, rv x), (2, rv (t + 1)), (3, rv o), (4, .int x48)]) [3, 4, 5, 6, 0] rfl ?_
          exact hX23 _ _ _ _ _ _ _ _ hw
        · have hw := it_t hw c47
          refine gj_aload_n C dL_law_306 5 rfl ?_
          refine gj_iconst (v := 0) C dL_law_307 rfl ?_
          obtain ⟨h49, hw⟩ := hw
          obtain ⟨h50, hw⟩ := hw
          refine lp_lald B h49 h50 dL_law_308 ?_
          refine gj_iload C dL_law_309 0 rfl ?_
          refine gj_i2l C dL_law_311 ?_
          refine gj_lcmp C dL_law_312 ?_
          refine gj_if_eq (tgt := 318) C dL_law_313 rfl (fun c51 => ?_) (fun c51 => ?_)
          · have hw := it_t hw c51
            refine gj_goto (tgt := 2203) C dL_law_318 rfl ?_
            obtain ⟨x52, ex52⟩ : ∃ x52 : Int32, x52 = v4 + 6 := ⟨_, rfl⟩
            have hw := hw x52 ex52
            refine gj_iinc (lc' := [(4, .int x52), (6, .int z40), (5, .int z36), (0, rv (b + 1)), (1, rv x), (2, rv (t + 1)), (3, rv o)]) (w := 6) (v := x52) C dL_law_2203 6 rfl rfl ex52.symm (Nat.le_of_ble_eq_true rfl) (show lst1 _ 4 _ = _ by simp [lst1, rv_cat]) ?_
            refine gj_goto (tgt := 23) C dL_law_2206 rfl ?_
            refine gj_sub (lc' := [(0, rv (b + 1)), (1, rv x), (2, rv (t + 1)), (3, rv o), (4, .int x52)]) [3, 4, 5, 6, 0] rfl ?_
            exact hX23 _ _ _ _ _ _ _ _ hw
          · have hw := it_f hw c51
            refine gj_iconst (v := 0) C dL_law_316 rfl ?_
            obtain ⟨h53, hw⟩ := hw
            exact lp_ret B h53 hw dL_law_317
      · have hw := it_f hw c46
        refine gj_iconst (v := 0) C dL_law_299 rfl ?_
        obtain ⟨h54, hw⟩ := hw
        exact lp_ret B h54 hw dL_law_300
    have hw := it_f hw c29
    by_cases c55 : ((xs (Int32.toNatClampNeg v4)) &&& 63) = 2
    · have hw := it_t hw c55
      refine gj_tabIn (v := 2) (tgt := 321) C dL_law_40 c55 (by decide) (by decide) (by rfl) rfl ?_
      refine gj_aload_n C dL_law_321 1 rfl ?_
      obtain ⟨h56, hw⟩ := hw
      obtain ⟨h57, hw⟩ := hw
      refine lp_enterC (fun H hT => ?_)
      refine tc_X0_114 C hW h56 hw (lrm B (Nat.le_of_ble_eq_true rfl) (Nat.le_of_ble_eq_true rfl) h57) B.2.2.2.2.1 (gc_rest (Nat.le_of_ble_eq_true rfl)) dL_law_322 (fun _ _ _ _ _ _ _ _ _ _ _ hf => hf.elim) (fun z62 I58 R59 K60 n61 hw => ?_)
      refine lp_leaveC B hT ?_
      refine gj_aload_n C dL_law_325 2 rfl ?_
      obtain ⟨h66, hw⟩ := hw
      refine lp_enterT (fun H hC => ?_)
      refine tl_X3_fault B hw h66 (gc_rest (Nat.le_of_ble_eq_true rfl)) dL_law_326 (fun z65 J63 l64 hw => ?_)
      refine lp_leaveT B hC ?_
      refine gj_icmp_eq (tgt := 2203) C dL_law_329 rfl (fun c67 => ?_) (fun c67 => ?_)
      · have hw := it_t hw c67
        obtain ⟨x68, ex68⟩ : ∃ x68 : Int32, x68 = v4 + 6 := ⟨_, rfl⟩
        have hw := hw x68 ex68
        refine gj_iinc (lc' := [(4, .int x68), (0, rv (b + 1)), (1, rv x), (2, rv (t + 1)), (3, rv o)]) (w := 6) (v := x68) C dL_law_2203 4 rfl rfl ex68.symm (Nat.le_of_ble_eq_true rfl) (show lst1 _ 4 _ = _ by simp [lst1, rv_cat]) ?_
        refine gj_goto (tgt := 23) C dL_law_2206 rfl ?_
        refine gj_sub (lc' := [(0, rv (b + 1)), (1, rv x), (2, rv (t + 1)), (3, rv o), (4, .int x68)]) [1, 2, 3, 4, 0] rfl ?_
        exact hX23 _ _ _ _ _ _ _ _ hw
      · have hw := it_f hw c67
        refine gj_iconst (v := 0) C dL_law_332 rfl ?_
        obtain ⟨h69, hw⟩ := hw
        exact lp_ret B h69 hw dL_law_333
    have hw := it_f hw c55
    by_cases c70 : ((xs (Int32.toNatClampNeg v4)) &&& 63) = 3
    · have hw := it_t hw c70
      refine gj_tabIn (v := 3) (tgt := 334) C dL_law_40 c70 (by decide) (by decide) (by rfl) rfl ?_
      refine gj_aload_n C dL_law_334 1 rfl ?_
      refine gj_aload_n C dL_law_335 0 rfl ?_
      refine gj_iload C dL_law_336 4 rfl ?_
      refine gj_iconst (v := 1) C dL_law_338 rfl ?_
      refine gj_iadd C dL_law_339 ?_
      obtain ⟨h71, hw⟩ := hw
      refine lp_iald B h71 dL_law_340 ?_
      refine gj_aload_n C dL_law_341 3 rfl ?_
      obtain ⟨h72, hw⟩ := hw
      refine lp_enterC (fun H hT => ?_)
      refine tc_X0_118 C hW hw (lrm B (Nat.le_of_ble_eq_true rfl) (Nat.le_of_ble_eq_true rfl) h72) B.2.2.2.2.1 (gc_rest (Nat.le_of_ble_eq_true rfl)) dL_law_342 (fun _ _ _ _ _ _ _ _ _ _ _ hf => hf.elim) (fun z77 I73 R74 K75 n76 hw => ?_)
      refine lp_leaveC B hT ?_
      refine gj_istore (lc' := [(5, .int z77), (0, rv (b + 1)), (1, rv x), (2, rv (t + 1)), (3, rv o), (4, .int v4)]) C dL_law_345 (Nat.le_of_ble_eq_true rfl) rfl ?_
      refine gj_aload_n C dL_law_347 3 rfl ?_
      refine gj_aload_n C dL_law_348 1 rfl ?_
      refine gj_iload C dL_law_349 5 rfl ?_
      refine gj_iconst (v := 1) C dL_law_351 rfl ?_
      refine gj_iadd C dL_law_352 ?_
      obtain ⟨h78, hw⟩ := hw
      refine lp_iald B h78 dL_law_353 ?_
      obtain ⟨h82, hw⟩ := hw
      refine lp_enterT (fun H hC => ?_)
      refine tl_X3_count B hw h82 (gc_rest (Nat.le_of_ble_eq_true rfl)) dL_law_354 (fun z81 J79 l80 hw => ?_)
      refine lp_leaveT B hC ?_
      refine gj_istore (lc' := [(6, .int z81), (5, .int z77), (0, rv (b + 1)), (1, rv x), (2, rv (t + 1)), (3, rv o), (4, .int v4)]) C dL_law_357 (Nat.le_of_ble_eq_true rfl) rfl ?_
      refine gj_aload_n C dL_law_359 4 rfl ?_
      obtain ⟨h86, hw⟩ := hw
      refine lp_enterT (fun H hC => ?_)
      refine tl_X3_thrown B hw h86 (gc_rest (Nat.le_of_ble_eq_true rfl)) dL_law_360 (fun z85 J83 l84 hw => ?_)
      refine lp_leaveT B hC ?_
      refine gj_iload C dL_law_363 1 rfl ?_
      refine gj_icmp_eq (tgt := 370) C dL_law_365 rfl (fun c87 => ?_) (fun c87 => ?_)
      · have hw := it_t hw c87
        refine gj_iload C dL_law_370 1 rfl ?_
        refine gj_if_ne (tgt := 387) C dL_law_372 rfl (fun c88 => ?_) (fun c88 => ?_)
        · have hw := it_f hw c88
          refine gj_goto (tgt := 2203) C dL_law_387 rfl ?_
          obtain ⟨x89, ex89⟩ : ∃ x89 : Int32, x89 = v4 + 6 := ⟨_, rfl⟩
          have hw := hw x89 ex89
          refine gj_iinc (lc' := [(4, .int x89), (6, .int z81), (5, .int z77), (0, rv (b + 1)), (1, rv x), (2, rv (t + 1)), (3, rv o)]) (w := 6) (v := x89) C dL_law_2203 6 rfl rfl ex89.symm (Nat.le_of_ble_eq_true rfl) (show lst1 _ 4 _ = _ by simp [lst1, rv_cat]) ?_
          refine gj_goto (tgt := 23) C dL_law_2206 rfl ?_
          refine gj_sub (lc' := [(0, rv (b + 1)), (1, rv x), (2, rv (t + 1)), (3, rv o), (4, .int x89)]) [3, 4, 5, 6, 0] rfl ?_
          exact hX23 _ _ _ _ _ _ _ _ hw
        · have hw := it_t hw c88
          refine gj_aload_n C dL_law_375 5 rfl ?_
          refine gj_iconst (v := 0) C dL_law_376 rfl ?_
          obtain ⟨h90, hw⟩ := hw
          obtain ⟨h91, hw⟩ := hw
          refine lp_lald B h90 h91 dL_law_377 ?_
          refine gj_iload C dL_law_378 0 rfl ?_
          refine gj_i2l C dL_law_380 ?_
          refine gj_lcmp C dL_law_381 ?_
          refine gj_if_eq (tgt := 387) C dL_law_382 rfl (fun c92 => ?_) (fun c92 => ?_)
          · have hw := it_t hw c92
            refine gj_goto (tgt := 2203) C dL_law_387 rfl ?_
            obtain ⟨x93, ex93⟩ : ∃ x93 : Int32, x93 = v4 + 6 := ⟨_, rfl⟩
            have hw := hw x93 ex93
            refine gj_iinc (lc' := [(4, .int x93), (6, .int z81), (5, .int z77), (0, rv (b + 1)), (1, rv x), (2, rv (t + 1)), (3, rv o)]) (w := 6) (v := x93) C dL_law_2203 6 rfl rfl ex93.symm (Nat.le_of_ble_eq_true rfl) (show lst1 _ 4 _ = _ by simp [lst1, rv_cat]) ?_
            refine gj_goto (tgt := 23) C dL_law_2206 rfl ?_
            refine gj_sub (lc' := [(0, rv (b + 1)), (1, rv x), (2, rv (t + 1)), (3, rv o), (4, .int x93)]) [3, 4, 5, 6, 0] rfl ?_
            exact hX23 _ _ _ _ _ _ _ _ hw
          · have hw := it_f hw c92
            refine gj_iconst (v := 0) C dL_law_385 rfl ?_
            obtain ⟨h94, hw⟩ := hw
            exact lp_ret B h94 hw dL_law_386
      · have hw := it_f hw c87
        refine gj_iconst (v := 0) C dL_law_368 rfl ?_
        obtain ⟨h95, hw⟩ := hw
        exact lp_ret B h95 hw dL_law_369
    have hw := it_f hw c70
    by_cases c96 : ((xs (Int32.toNatClampNeg v4)) &&& 63) = 4
    · have hw := it_t hw c96
      refine gj_tabIn (v := 4) (tgt := 390) C dL_law_40 c96 (by decide) (by decide) (by rfl) rfl ?_
      refine gj_aload_n C dL_law_390 1 rfl ?_
      refine gj_aload_n C dL_law_391 0 rfl ?_
      refine gj_iload C dL_law_392 4 rfl ?_
      refine gj_iconst (v := 1) C dL_law_394 rfl ?_
      refine gj_iadd C dL_law_395 ?_
      obtain ⟨h97, hw⟩ := hw
      refine lp_iald B h97 dL_law_396 ?_
      refine gj_aload_n C dL_law_397 0 rfl ?_
      refine gj_iload C dL_law_398 4 rfl ?_
      refine gj_iconst (v := 2) C dL_law_400 rfl ?_
      refine gj_iadd C dL_law_401 ?_
      obtain ⟨h98, hw⟩ := hw
      refine lp_iald B h98 dL_law_402 ?_
      refine gj_aload_n C dL_law_403 3 rfl ?_
      obtain ⟨h99, hw⟩ := hw
      refine lp_enterC (fun H hT => ?_)
      refine tc_X0_121 C hW hw (lrm B (Nat.le_of_ble_eq_true rfl) (Nat.le_of_ble_eq_true rfl) h99) B.2.2.2.2.1 (gc_rest (Nat.le_of_ble_eq_true rfl)) dL_law_404 (fun _ _ _ _ _ _ _ _ _ _ _ hf => hf.elim) (fun z104 I100 R101 K102 n103 hw => ?_)
      refine lp_leaveC B hT ?_
      refine gj_istore (lc' := [(5, .int z104), (0, rv (b + 1)), (1, rv x), (2, rv (t + 1)), (3, rv o), (4, .int v4)]) C dL_law_407 (Nat.le_of_ble_eq_true rfl) rfl ?_
      refine gj_aload_n C dL_law_409 3 rfl ?_
      refine gj_aload_n C dL_law_410 1 rfl ?_
      refine gj_iload C dL_law_411 5 rfl ?_
      refine gj_iconst (v := 1) C dL_law_413 rfl ?_
      refine gj_iadd C dL_law_414 ?_
      obtain ⟨h105, hw⟩ := hw
      refine lp_iald B h105 dL_law_415 ?_
      refine gj_aload_n C dL_law_416 1 rfl ?_
      refine gj_iload C dL_law_417 5 rfl ?_
      refine gj_iconst (v := 2) C dL_law_419 rfl ?_
      refine gj_iadd C dL_law_420 ?_
      obtain ⟨h106, hw⟩ := hw
      refine lp_iald B h106 dL_law_421 ?_
      obtain ⟨h110, hw⟩ := hw
      refine lp_enterT (fun H hC => ?_)
      refine tl_X3_room B hw h110 (gc_rest (Nat.le_of_ble_eq_true rfl)) dL_law_422 (fun z109 J107 l108 hw => ?_)
      refine lp_leaveT B hC ?_
      refine gj_istore (lc' := [(6, .int z109), (5, .int z104), (0, rv (b + 1)), (1, rv x), (2, rv (t + 1)), (3, rv o), (4, .int v4)]) C dL_law_425 (Nat.le_of_ble_eq_true rfl) rfl ?_
      refine gj_aload_n C dL_law_427 4 rfl ?_
      obtain ⟨h114, hw⟩ := hw
      refine lp_enterT (fun H hC => ?_)
      refine tl_X3_thrown B hw h114 (gc_rest (Nat.le_of_ble_eq_true rfl)) dL_law_428 (fun z113 J111 l112 hw => ?_)
      refine lp_leaveT B hC ?_
      refine gj_iload C dL_law_431 1 rfl ?_
      refine gj_icmp_eq (tgt := 438) C dL_law_433 rfl (fun c115 => ?_) (fun c115 => ?_)
      · have hw := it_t hw c115
        refine gj_iload C dL_law_438 1 rfl ?_
        refine gj_if_ne (tgt := 455) C dL_law_440 rfl (fun c116 => ?_) (fun c116 => ?_)
        · have hw := it_f hw c116
          refine gj_goto (tgt := 2203) C dL_law_455 rfl ?_
          obtain ⟨x117, ex117⟩ : ∃ x117 : Int32, x117 = v4 + 6 := ⟨_, rfl⟩
          have hw := hw x117 ex117
          refine gj_iinc (lc' := [(4, .int x117), (6, .int z109), (5, .int z104), (0, rv (b + 1)), (1, rv x), (2, rv (t + 1)), (3, rv o)]) (w := 6) (v := x117) C dL_law_2203 6 rfl rfl ex117.symm (Nat.le_of_ble_eq_true rfl) (show lst1 _ 4 _ = _ by simp [lst1, rv_cat]) ?_
          refine gj_goto (tgt := 23) C dL_law_2206 rfl ?_
          refine gj_sub (lc' := [(0, rv (b + 1)), (1, rv x), (2, rv (t + 1)), (3, rv o), (4, .int x117)]) [3, 4, 5, 6, 0] rfl ?_
          exact hX23 _ _ _ _ _ _ _ _ hw
        · have hw := it_t hw c116
          refine gj_aload_n C dL_law_443 5 rfl ?_
          refine gj_iconst (v := 0) C dL_law_444 rfl ?_
          obtain ⟨h118, hw⟩ := hw
          obtain ⟨h119, hw⟩ := hw
          refine lp_lald B h118 h119 dL_law_445 ?_
          refine gj_iload C dL_law_446 0 rfl ?_
          refine gj_i2l C dL_law_448 ?_
          refine gj_lcmp C dL_law_449 ?_
          refine gj_if_eq (tgt := 455) C dL_law_450 rfl (fun c120 => ?_) (fun c120 => ?_)
          · have hw := it_t hw c120
            refine gj_goto (tgt := 2203) C dL_law_455 rfl ?_
            obtain ⟨x121, ex121⟩ : ∃ x121 : Int32, x121 = v4 + 6 := ⟨_, rfl⟩
            have hw := hw x121 ex121
            refine gj_iinc (lc' := [(4, .int x121), (6, .int z109), (5, .int z104), (0, rv (b + 1)), (1, rv x), (2, rv (t + 1)), (3, rv o)]) (w := 6) (v := x121) C dL_law_2203 6 rfl rfl ex121.symm (Nat.le_of_ble_eq_true rfl) (show lst1 _ 4 _ = _ by simp [lst1, rv_cat]) ?_
            refine gj_goto (tgt := 23) C dL_law_2206 rfl ?_
            refine gj_sub (lc' := [(0, rv (b + 1)), (1, rv x), (2, rv (t + 1)), (3, rv o), (4, .int x121)]) [3, 4, 5, 6, 0] rfl ?_
            exact hX23 _ _ _ _ _ _ _ _ hw
          · have hw := it_f hw c120
            refine gj_iconst (v := 0) C dL_law_453 rfl ?_
            obtain ⟨h122, hw⟩ := hw
            exact lp_ret B h122 hw dL_law_454
      · have hw := it_f hw c115
        refine gj_iconst (v := 0) C dL_law_436 rfl ?_
        obtain ⟨h123, hw⟩ := hw
        exact lp_ret B h123 hw dL_law_437
    have hw := it_f hw c96
    by_cases c124 : ((xs (Int32.toNatClampNeg v4)) &&& 63) = 5
    · have hw := it_t hw c124
      refine gj_tabIn (v := 5) (tgt := 458) C dL_law_40 c124 (by decide) (by decide) (by rfl) rfl ?_
      refine gj_aload_n C dL_law_458 1 rfl ?_
      refine gj_aload_n C dL_law_459 0 rfl ?_
      refine gj_iload C dL_law_460 4 rfl ?_
      refine gj_iconst (v := 1) C dL_law_462 rfl ?_
      refine gj_iadd C dL_law_463 ?_
      obtain ⟨h125, hw⟩ := hw
      refine lp_iald B h125 dL_law_464 ?_
      refine gj_aload_n C dL_law_465 0 rfl ?_
      refine gj_iload C dL_law_466 4 rfl ?_
      refine gj_iconst (v := 2) C dL_law_468 rfl ?_
      refine gj_iadd C dL_law_469 ?_
      obtain ⟨h126, hw⟩ := hw
      refine lp_iald B h126 dL_law_470 ?_
      refine gj_aload_n C dL_law_471 3 rfl ?_
      obtain ⟨h127, hw⟩ := hw
      refine lp_enterC (fun H hT => ?_)
      refine tc_X0_125 C hW hw (lrm B (Nat.le_of_ble_eq_true rfl) (Nat.le_of_ble_eq_true rfl) h127) B.2.2.2.2.1 (gc_rest (Nat.le_of_ble_eq_true rfl)) dL_law_472 (fun _ _ _ _ _ _ _ _ _ _ _ hf => hf.elim) (fun z132 I128 R129 K130 n131 hw => ?_)
      refine lp_leaveC B hT ?_
      refine gj_istore (lc' := [(5, .int z132), (0, rv (b + 1)), (1, rv x), (2, rv (t + 1)), (3, rv o), (4, .int v4)]) C dL_law_475 (Nat.le_of_ble_eq_true rfl) rfl ?_
      refine gj_aload_n C dL_law_477 3 rfl ?_
      refine gj_aload_n C dL_law_478 1 rfl ?_
      refine gj_iload C dL_law_479 5 rfl ?_
      refine gj_iconst (v := 1) C dL_law_481 rfl ?_
      refine gj_iadd C dL_law_482 ?_
      obtain ⟨h133, hw⟩ := hw
      refine lp_iald B h133 dL_law_483 ?_
      refine gj_aload_n C dL_law_484 1 rfl ?_
      refine gj_iload C dL_law_485 5 rfl ?_
      refine gj_iconst (v := 2) C dL_law_487 rfl ?_
      refine gj_iadd C dL_law_488 ?_
      obtain ⟨h134, hw⟩ := hw
      refine lp_iald B h134 dL_law_489 ?_
      obtain ⟨h138, hw⟩ := hw
      refine lp_enterT (fun H hC => ?_)
      refine tl_X3_lodger B hw h138 (gc_rest (Nat.le_of_ble_eq_true rfl)) dL_law_490 (fun z137 J135 l136 hw => ?_)
      refine lp_leaveT B hC ?_
      refine gj_istore (lc' := [(6, .int z137), (5, .int z132), (0, rv (b + 1)), (1, rv x), (2, rv (t + 1)), (3, rv o), (4, .int v4)]) C dL_law_493 (Nat.le_of_ble_eq_true rfl) rfl ?_
      refine gj_aload_n C dL_law_495 4 rfl ?_
      obtain ⟨h142, hw⟩ := hw
      refine lp_enterT (fun H hC => ?_)
      refine tl_X3_thrown B hw h142 (gc_rest (Nat.le_of_ble_eq_true rfl)) dL_law_496 (fun z141 J139 l140 hw => ?_)
      refine lp_leaveT B hC ?_
      refine gj_iload C dL_law_499 1 rfl ?_
      refine gj_icmp_eq (tgt := 506) C dL_law_501 rfl (fun c143 => ?_) (fun c143 => ?_)
      · have hw := it_t hw c143
        refine gj_iload C dL_law_506 1 rfl ?_
        refine gj_if_ne (tgt := 523) C dL_law_508 rfl (fun c144 => ?_) (fun c144 => ?_)
        · have hw := it_f hw c144
          refine gj_goto (tgt := 2203) C dL_law_523 rfl ?_
          obtain ⟨x145, ex145⟩ : ∃ x145 : Int32, x145 = v4 + 6 := ⟨_, rfl⟩
          have hw := hw x145 ex145
          refine gj_iinc (lc' := [(4, .int x145), (6, .int z137), (5, .int z132), (0, rv (b + 1)), (1, rv x), (2, rv (t + 1)), (3, rv o)]) (w := 6) (v := x145) C dL_law_2203 6 rfl rfl ex145.symm (Nat.le_of_ble_eq_true rfl) (show lst1 _ 4 _ = _ by simp [lst1, rv_cat]) ?_
          refine gj_goto (tgt := 23) C dL_law_2206 rfl ?_
          refine gj_sub (lc' := [(0, rv (b + 1)), (1, rv x), (2, rv (t + 1)), (3, rv o), (4, .int x145)]) [3, 4, 5, 6, 0] rfl ?_
          exact hX23 _ _ _ _ _ _ _ _ hw
        · have hw := it_t hw c144
          refine gj_aload_n C dL_law_511 5 rfl ?_
          refine gj_iconst (v := 0) C dL_law_512 rfl ?_
          obtain ⟨h146, hw⟩ := hw
          obtain ⟨h147, hw⟩ := hw
          refine lp_lald B h146 h147 dL_law_513 ?_
          refine gj_iload C dL_law_514 0 rfl ?_
          refine gj_i2l C dL_law_516 ?_
          refine gj_lcmp C dL_law_517 ?_
          refine gj_if_eq (tgt := 523) C dL_law_518 rfl (fun c148 => ?_) (fun c148 => ?_)
          · have hw := it_t hw c148
            refine gj_goto (tgt := 2203) C dL_law_523 rfl ?_
            obtain ⟨x149, ex149⟩ : ∃ x149 : Int32, x149 = v4 + 6 := ⟨_, rfl⟩
            have hw := hw x149 ex149
            refine gj_iinc (lc' := [(4, .int x149), (6, .int z137), (5, .int z132), (0, rv (b + 1)), (1, rv x), (2, rv (t + 1)), (3, rv o)]) (w := 6) (v := x149) C dL_law_2203 6 rfl rfl ex149.symm (Nat.le_of_ble_eq_true rfl) (show lst1 _ 4 _ = _ by simp [lst1, rv_cat]) ?_
            refine gj_goto (tgt := 23) C dL_law_2206 rfl ?_
            refine gj_sub (lc' := [(0, rv (b + 1)), (1, rv x), (2, rv (t + 1)), (3, rv o), (4, .int x149)]) [3, 4, 5, 6, 0] rfl ?_
            exact hX23 _ _ _ _ _ _ _ _ hw
          · have hw := it_f hw c148
            refine gj_iconst (v := 0) C dL_law_521 rfl ?_
            obtain ⟨h150, hw⟩ := hw
            exact lp_ret B h150 hw dL_law_522
      · have hw := it_f hw c143
        refine gj_iconst (v := 0) C dL_law_504 rfl ?_
        obtain ⟨h151, hw⟩ := hw
        exact lp_ret B h151 hw dL_law_505
    have hw := it_f hw c124
    by_cases c152 : ((xs (Int32.toNatClampNeg v4)) &&& 63) = 6
    · have hw := it_t hw c152
      refine gj_tabIn (v := 6) (tgt := 526) C dL_law_40 c152 (by decide) (by decide) (by rfl) rfl ?_
      refine gj_aload_n C dL_law_526 1 rfl ?_
      refine gj_aload_n C dL_law_527 0 rfl ?_
      refine gj_iload C dL_law_528 4 rfl ?_
      refine gj_iconst (v := 1) C dL_law_530 rfl ?_
      refine gj_iadd C dL_law_531 ?_
      obtain ⟨h153, hw⟩ := hw
      refine lp_iald B h153 dL_law_532 ?_
      refine gj_aload_n C dL_law_533 0 rfl ?_
      refine gj_iload C dL_law_534 4 rfl ?_
      refine gj_iconst (v := 2) C dL_law_536 rfl ?_
      refine gj_iadd C dL_law_537 ?_
      obtain ⟨h154, hw⟩ := hw
      refine lp_iald B h154 dL_law_538 ?_
      refine gj_aload_n C dL_law_539 0 rfl ?_
      refine gj_iload C dL_law_540 4 rfl ?_
      refine gj_iconst (v := 3) C dL_law_542 rfl ?_
      refine gj_iadd C dL_law_543 ?_
      obtain ⟨h155, hw⟩ := hw
      refine lp_iald B h155 dL_law_544 ?_
      refine gj_aload_n C dL_law_545 3 rfl ?_
      obtain ⟨h156, hw⟩ := hw
      refine lp_enterC (fun H hT => ?_)
      refine tc_X0_128 C hW hw (lrm B (Nat.le_of_ble_eq_true rfl) (Nat.le_of_ble_eq_true rfl) h156) B.2.2.2.2.1 (gc_rest (Nat.le_of_ble_eq_true rfl)) dL_law_546 (fun _ _ _ _ _ _ _ _ _ _ _ hf => hf.elim) (fun z161 I157 R158 K159 n160 hw => ?_)
      refine lp_leaveC B hT ?_
      refine gj_istore (lc' := [(5, .int z161), (0, rv (b + 1)), (1, rv x), (2, rv (t + 1)), (3, rv o), (4, .int v4)]) C dL_law_549 (Nat.le_of_ble_eq_true rfl) rfl ?_
      refine gj_aload_n C dL_law_551 3 rfl ?_
      refine gj_aload_n C dL_law_552 1 rfl ?_
      refine gj_iload C dL_law_553 5 rfl ?_
      refine gj_iconst (v := 1) C dL_law_555 rfl ?_
      refine gj_iadd C dL_law_556 ?_
      obtain ⟨h162, hw⟩ := hw
      refine lp_iald B h162 dL_law_557 ?_
      refine gj_aload_n C dL_law_558 1 rfl ?_
      refine gj_iload C dL_law_559 5 rfl ?_
      refine gj_iconst (v := 2) C dL_law_561 rfl ?_
      refine gj_iadd C dL_law_562 ?_
      obtain ⟨h163, hw⟩ := hw
      refine lp_iald B h163 dL_law_563 ?_
      refine gj_aload_n C dL_law_564 1 rfl ?_
      refine gj_iload C dL_law_565 5 rfl ?_
      refine gj_iconst (v := 3) C dL_law_567 rfl ?_
      refine gj_iadd C dL_law_568 ?_
      obtain ⟨h164, hw⟩ := hw
      refine lp_iald B h164 dL_law_569 ?_
      obtain ⟨h168, hw⟩ := hw
      refine lp_enterT (fun H hC => ?_)
      refine tl_X3_may B hw h168 (gc_rest (Nat.le_of_ble_eq_true rfl)) dL_law_570 (fun z167 J165 l166 hw => ?_)
      refine lp_leaveT B hC ?_
      refine gj_istore (lc' := [(6, .int z167), (5, .int z161), (0, rv (b + 1)), (1, rv x), (2, rv (t + 1)), (3, rv o), (4, .int v4)]) C dL_law_573 (Nat.le_of_ble_eq_true rfl) rfl ?_
      refine gj_aload_n C dL_law_575 4 rfl ?_
      obtain ⟨h172, hw⟩ := hw
      refine lp_enterT (fun H hC => ?_)
      refine tl_X3_thrown B hw h172 (gc_rest (Nat.le_of_ble_eq_true rfl)) dL_law_576 (fun z171 J169 l170 hw => ?_)
      refine lp_leaveT B hC ?_
      refine gj_iload C dL_law_579 1 rfl ?_
      refine gj_icmp_eq (tgt := 586) C dL_law_581 rfl (fun c173 => ?_) (fun c173 => ?_)
      · have hw := it_t hw c173
        refine gj_iload C dL_law_586 1 rfl ?_
        refine gj_if_ne (tgt := 603) C dL_law_588 rfl (fun c174 => ?_) (fun c174 => ?_)
        · have hw := it_f hw c174
          refine gj_goto (tgt := 2203) C dL_law_603 rfl ?_
          obtain ⟨x175, ex175⟩ : ∃ x175 : Int32, x175 = v4 + 6 := ⟨_, rfl⟩
          have hw := hw x175 ex175
          refine gj_iinc (lc' := [(4, .int x175), (6, .int z167), (5, .int z161), (0, rv (b + 1)), (1, rv x), (2, rv (t + 1)), (3, rv o)]) (w := 6) (v := x175) C dL_law_2203 6 rfl rfl ex175.symm (Nat.le_of_ble_eq_true rfl) (show lst1 _ 4 _ = _ by simp [lst1, rv_cat]) ?_
          refine gj_goto (tgt := 23) C dL_law_2206 rfl ?_
          refine gj_sub (lc' := [(0, rv (b + 1)), (1, rv x), (2, rv (t + 1)), (3, rv o), (4, .int x175)]) [3, 4, 5, 6, 0] rfl ?_
          exact hX23 _ _ _ _ _ _ _ _ hw
        · have hw := it_t hw c174
          refine gj_aload_n C dL_law_591 5 rfl ?_
          refine gj_iconst (v := 0) C dL_law_592 rfl ?_
          obtain ⟨h176, hw⟩ := hw
          obtain ⟨h177, hw⟩ := hw
          refine lp_lald B h176 h177 dL_law_593 ?_
          refine gj_iload C dL_law_594 0 rfl ?_
          refine gj_i2l C dL_law_596 ?_
          refine gj_lcmp C dL_law_597 ?_
          refine gj_if_eq (tgt := 603) C dL_law_598 rfl (fun c178 => ?_) (fun c178 => ?_)
          · have hw := it_t hw c178
            refine gj_goto (tgt := 2203) C dL_law_603 rfl ?_
            obtain ⟨x179, ex179⟩ : ∃ x179 : Int32, x179 = v4 + 6 := ⟨_, rfl⟩
            have hw := hw x179 ex179
            refine gj_iinc (lc' := [(4, .int x179), (6, .int z167), (5, .int z161), (0, rv (b + 1)), (1, rv x), (2, rv (t + 1)), (3, rv o)]) (w := 6) (v := x179) C dL_law_2203 6 rfl rfl ex179.symm (Nat.le_of_ble_eq_true rfl) (show lst1 _ 4 _ = _ by simp [lst1, rv_cat]) ?_
            refine gj_goto (tgt := 23) C dL_law_2206 rfl ?_
            refine gj_sub (lc' := [(0, rv (b + 1)), (1, rv x), (2, rv (t + 1)), (3, rv o), (4, .int x179)]) [3, 4, 5, 6, 0] rfl ?_
            exact hX23 _ _ _ _ _ _ _ _ hw
          · have hw := it_f hw c178
            refine gj_iconst (v := 0) C dL_law_601 rfl ?_
            obtain ⟨h180, hw⟩ := hw
            exact lp_ret B h180 hw dL_law_602
      · have hw := it_f hw c173
        refine gj_iconst (v := 0) C dL_law_584 rfl ?_
        obtain ⟨h181, hw⟩ := hw
        exact lp_ret B h181 hw dL_law_585
    have hw := it_f hw c152
    by_cases c182 : ((xs (Int32.toNatClampNeg v4)) &&& 63) = 7
    · have hw := it_t hw c182
      refine gj_tabIn (v := 7) (tgt := 606) C dL_law_40 c182 (by decide) (by decide) (by rfl) rfl ?_
      refine gj_aload_n C dL_law_606 1 rfl ?_
      refine gj_aload_n C dL_law_607 0 rfl ?_
      refine gj_iload C dL_law_608 4 rfl ?_
      refine gj_iconst (v := 1) C dL_law_610 rfl ?_
      refine gj_iadd C dL_law_611 ?_
      obtain ⟨h183, hw⟩ := hw
      refine lp_iald B h183 dL_law_612 ?_
      refine gj_aload_n C dL_law_613 0 rfl ?_
      refine gj_iload C dL_law_614 4 rfl ?_
      refine gj_iconst (v := 2) C dL_law_616 rfl ?_
      refine gj_iadd C dL_law_617 ?_
      obtain ⟨h184, hw⟩ := hw
      refine lp_iald B h184 dL_law_618 ?_
      refine gj_aload_n C dL_law_619 3 rfl ?_
      obtain ⟨h185, hw⟩ := hw
      refine lp_enterC (fun H hT => ?_)
      refine tc_X0_132 C hW hw (lrm B (Nat.le_of_ble_eq_true rfl) (Nat.le_of_ble_eq_true rfl) h185) B.2.2.2.2.1 (gc_rest (Nat.le_of_ble_eq_true rfl)) dL_law_620 (fun _ _ _ _ _ _ _ _ _ _ _ hf => hf.elim) (fun z190 I186 R187 K188 n189 hw => ?_)
      refine lp_leaveC B hT ?_
      refine gj_istore (lc' := [(5, .int z190), (0, rv (b + 1)), (1, rv x), (2, rv (t + 1)), (3, rv o), (4, .int v4)]) C dL_law_623 (Nat.le_of_ble_eq_true rfl) rfl ?_
      refine gj_aload_n C dL_law_625 3 rfl ?_
      refine gj_aload_n C dL_law_626 1 rfl ?_
      refine gj_iload C dL_law_627 5 rfl ?_
      refine gj_iconst (v := 1) C dL_law_629 rfl ?_
      refine gj_iadd C dL_law_630 ?_
      obtain ⟨h191, hw⟩ := hw
      refine lp_iald B h191 dL_law_631 ?_
      refine gj_aload_n C dL_law_632 1 rfl ?_
      refine gj_iload C dL_law_633 5 rfl ?_
      refine gj_iconst (v := 2) C dL_law_635 rfl ?_
      refine gj_iadd C dL_law_636 ?_
      obtain ⟨h192, hw⟩ := hw
      refine lp_iald B h192 dL_law_637 ?_
      obtain ⟨h196, hw⟩ := hw
      refine lp_enterT (fun H hC => ?_)
      refine tl_X3_says B hw h196 (gc_rest (Nat.le_of_ble_eq_true rfl)) dL_law_638 (fun z195 J193 l194 hw => ?_)
      refine lp_leaveT B hC ?_
      refine gj_istore (lc' := [(6, .int z195), (5, .int z190), (0, rv (b + 1)), (1, rv x), (2, rv (t + 1)), (3, rv o), (4, .int v4)]) C dL_law_641 (Nat.le_of_ble_eq_true rfl) rfl ?_
      refine gj_aload_n C dL_law_643 4 rfl ?_
      obtain ⟨h200, hw⟩ := hw
      refine lp_enterT (fun H hC => ?_)
      refine tl_X3_thrown B hw h200 (gc_rest (Nat.le_of_ble_eq_true rfl)) dL_law_644 (fun z199 J197 l198 hw => ?_)
      refine lp_leaveT B hC ?_
      refine gj_iload C dL_law_647 1 rfl ?_
      refine gj_icmp_eq (tgt := 654) C dL_law_649 rfl (fun c201 => ?_) (fun c201 => ?_)
      · have hw := it_t hw c201
        refine gj_iload C dL_law_654 1 rfl ?_
        refine gj_if_ne (tgt := 671) C dL_law_656 rfl (fun c202 => ?_) (fun c202 => ?_)
        · have hw := it_f hw c202
          refine gj_goto (tgt := 2203) C dL_law_671 rfl ?_
          obtain ⟨x203, ex203⟩ : ∃ x203 : Int32, x203 = v4 + 6 := ⟨_, rfl⟩
          have hw := hw x203 ex203
          refine gj_iinc (lc' := [(4, .int x203), (6, .int z195), (5, .int z190), (0, rv (b + 1)), (1, rv x), (2, rv (t + 1)), (3, rv o)]) (w := 6) (v := x203) C dL_law_2203 6 rfl rfl ex203.symm (Nat.le_of_ble_eq_true rfl) (show lst1 _ 4 _ = _ by simp [lst1, rv_cat]) ?_
          refine gj_goto (tgt := 23) C dL_law_2206 rfl ?_
          refine gj_sub (lc' := [(0, rv (b + 1)), (1, rv x), (2, rv (t + 1)), (3, rv o), (4, .int x203)]) [3, 4, 5, 6, 0] rfl ?_
          exact hX23 _ _ _ _ _ _ _ _ hw
        · have hw := it_t hw c202
          refine gj_aload_n C dL_law_659 5 rfl ?_
          refine gj_iconst (v := 0) C dL_law_660 rfl ?_
          obtain ⟨h204, hw⟩ := hw
          obtain ⟨h205, hw⟩ := hw
          refine lp_lald B h204 h205 dL_law_661 ?_
          refine gj_iload C dL_law_662 0 rfl ?_
          refine gj_i2l C dL_law_664 ?_
          refine gj_lcmp C dL_law_665 ?_
          refine gj_if_eq (tgt := 671) C dL_law_666 rfl (fun c206 => ?_) (fun c206 => ?_)
          · have hw := it_t hw c206
            refine gj_goto (tgt := 2203) C dL_law_671 rfl ?_
            obtain ⟨x207, ex207⟩ : ∃ x207 : Int32, x207 = v4 + 6 := ⟨_, rfl⟩
            have hw := hw x207 ex207
            refine gj_iinc (lc' := [(4, .int x207), (6, .int z195), (5, .int z190), (0, rv (b + 1)), (1, rv x), (2, rv (t + 1)), (3, rv o)]) (w := 6) (v := x207) C dL_law_2203 6 rfl rfl ex207.symm (Nat.le_of_ble_eq_true rfl) (show lst1 _ 4 _ = _ by simp [lst1, rv_cat]) ?_
            refine gj_goto (tgt := 23) C dL_law_2206 rfl ?_
            refine gj_sub (lc' := [(0, rv (b + 1)), (1, rv x), (2, rv (t + 1)), (3, rv o), (4, .int x207)]) [3, 4, 5, 6, 0] rfl ?_
            exact hX23 _ _ _ _ _ _ _ _ hw
          · have hw := it_f hw c206
            refine gj_iconst (v := 0) C dL_law_669 rfl ?_
            obtain ⟨h208, hw⟩ := hw
            exact lp_ret B h208 hw dL_law_670
      · have hw := it_f hw c201
        refine gj_iconst (v := 0) C dL_law_652 rfl ?_
        obtain ⟨h209, hw⟩ := hw
        exact lp_ret B h209 hw dL_law_653
    have hw := it_f hw c182
    by_cases c210 : ((xs (Int32.toNatClampNeg v4)) &&& 63) = 8
    · have hw := it_t hw c210
      refine gj_tabIn (v := 8) (tgt := 674) C dL_law_40 c210 (by decide) (by decide) (by rfl) rfl ?_
      refine gj_aload_n C dL_law_674 1 rfl ?_
      refine gj_aload_n C dL_law_675 0 rfl ?_
      refine gj_iload C dL_law_676 4 rfl ?_
      refine gj_iconst (v := 1) C dL_law_678 rfl ?_
      refine gj_iadd C dL_law_679 ?_
      obtain ⟨h211, hw⟩ := hw
      refine lp_iald B h211 dL_law_680 ?_
      refine gj_aload_n C dL_law_681 0 rfl ?_
      refine gj_iload C dL_law_682 4 rfl ?_
      refine gj_iconst (v := 2) C dL_law_684 rfl ?_
      refine gj_iadd C dL_law_685 ?_
      obtain ⟨h212, hw⟩ := hw
      refine lp_iald B h212 dL_law_686 ?_
      refine gj_aload_n C dL_law_687 0 rfl ?_
      refine gj_iload C dL_law_688 4 rfl ?_
      refine gj_iconst (v := 3) C dL_law_690 rfl ?_
      refine gj_iadd C dL_law_691 ?_
      obtain ⟨h213, hw⟩ := hw
      refine lp_iald B h213 dL_law_692 ?_
      refine gj_aload_n C dL_law_693 3 rfl ?_
      obtain ⟨h214, hw⟩ := hw
      refine lp_enterC (fun H hT => ?_)
      refine tc_X0_135 C hW hw (lrm B (Nat.le_of_ble_eq_true rfl) (Nat.le_of_ble_eq_true rfl) h214) B.2.2.2.2.1 (gc_rest (Nat.le_of_ble_eq_true rfl)) dL_law_694 (fun _ _ _ _ _ _ _ _ _ _ _ hf => hf.elim) (fun z219 I215 R216 K217 n218 hw => ?_)
      refine lp_leaveC B hT ?_
      refine gj_istore (lc' := [(5, .int z219), (0, rv (b + 1)), (1, rv x), (2, rv (t + 1)), (3, rv o), (4, .int v4)]) C dL_law_697 (Nat.le_of_ble_eq_true rfl) rfl ?_
      refine gj_aload_n C dL_law_699 3 rfl ?_
      refine gj_aload_n C dL_law_700 1 rfl ?_
      refine gj_iload C dL_law_701 5 rfl ?_
      refine gj_iconst (v := 1) C dL_law_703 rfl ?_
      refine gj_iadd C dL_law_704 ?_
      obtain ⟨h220, hw⟩ := hw
      refine lp_iald B h220 dL_law_705 ?_
      refine gj_aload_n C dL_law_706 1 rfl ?_
      refine gj_iload C dL_law_707 5 rfl ?_
      refine gj_iconst (v := 2) C dL_law_709 rfl ?_
      refine gj_iadd C dL_law_710 ?_
      obtain ⟨h221, hw⟩ := hw
      refine lp_iald B h221 dL_law_711 ?_
      refine gj_aload_n C dL_law_712 1 rfl ?_
      refine gj_iload C dL_law_713 5 rfl ?_
      refine gj_iconst (v := 3) C dL_law_715 rfl ?_
      refine gj_iadd C dL_law_716 ?_
      obtain ⟨h222, hw⟩ := hw
      refine lp_iald B h222 dL_law_717 ?_
      obtain ⟨h226, hw⟩ := hw
      refine lp_enterT (fun H hC => ?_)
      refine tl_X3_lend B hw h226 (gc_rest (Nat.le_of_ble_eq_true rfl)) dL_law_718 (fun z225 J223 l224 hw => ?_)
      refine lp_leaveT B hC ?_
      refine gj_istore (lc' := [(6, .int z225), (5, .int z219), (0, rv (b + 1)), (1, rv x), (2, rv (t + 1)), (3, rv o), (4, .int v4)]) C dL_law_721 (Nat.le_of_ble_eq_true rfl) rfl ?_
      refine gj_aload_n C dL_law_723 4 rfl ?_
      obtain ⟨h230, hw⟩ := hw
      refine lp_enterT (fun H hC => ?_)
      refine tl_X3_thrown B hw h230 (gc_rest (Nat.le_of_ble_eq_true rfl)) dL_law_724 (fun z229 J227 l228 hw => ?_)
      refine lp_leaveT B hC ?_
      refine gj_iload C dL_law_727 1 rfl ?_
      refine gj_icmp_eq (tgt := 734) C dL_law_729 rfl (fun c231 => ?_) (fun c231 => ?_)
      · have hw := it_t hw c231
        refine gj_iload C dL_law_734 1 rfl ?_
        refine gj_if_ne (tgt := 751) C dL_law_736 rfl (fun c232 => ?_) (fun c232 => ?_)
        · have hw := it_f hw c232
          refine gj_goto (tgt := 2203) C dL_law_751 rfl ?_
          obtain ⟨x233, ex233⟩ : ∃ x233 : Int32, x233 = v4 + 6 := ⟨_, rfl⟩
          have hw := hw x233 ex233
          refine gj_iinc (lc' := [(4, .int x233), (6, .int z225), (5, .int z219), (0, rv (b + 1)), (1, rv x), (2, rv (t + 1)), (3, rv o)]) (w := 6) (v := x233) C dL_law_2203 6 rfl rfl ex233.symm (Nat.le_of_ble_eq_true rfl) (show lst1 _ 4 _ = _ by simp [lst1, rv_cat]) ?_
          refine gj_goto (tgt := 23) C dL_law_2206 rfl ?_
          refine gj_sub (lc' := [(0, rv (b + 1)), (1, rv x), (2, rv (t + 1)), (3, rv o), (4, .int x233)]) [3, 4, 5, 6, 0] rfl ?_
          exact hX23 _ _ _ _ _ _ _ _ hw
        · have hw := it_t hw c232
          refine gj_aload_n C dL_law_739 5 rfl ?_
          refine gj_iconst (v := 0) C dL_law_740 rfl ?_
          obtain ⟨h234, hw⟩ := hw
          obtain ⟨h235, hw⟩ := hw
          refine lp_lald B h234 h235 dL_law_741 ?_
          refine gj_iload C dL_law_742 0 rfl ?_
          refine gj_i2l C dL_law_744 ?_
          refine gj_lcmp C dL_law_745 ?_
          refine gj_if_eq (tgt := 751) C dL_law_746 rfl (fun c236 => ?_) (fun c236 => ?_)
          · have hw := it_t hw c236
            refine gj_goto (tgt := 2203) C dL_law_751 rfl ?_
            obtain ⟨x237, ex237⟩ : ∃ x237 : Int32, x237 = v4 + 6 := ⟨_, rfl⟩
            have hw := hw x237 ex237
            refine gj_iinc (lc' := [(4, .int x237), (6, .int z225), (5, .int z219), (0, rv (b + 1)), (1, rv x), (2, rv (t + 1)), (3, rv o)]) (w := 6) (v := x237) C dL_law_2203 6 rfl rfl ex237.symm (Nat.le_of_ble_eq_true rfl) (show lst1 _ 4 _ = _ by simp [lst1, rv_cat]) ?_
            refine gj_goto (tgt := 23) C dL_law_2206 rfl ?_
            refine gj_sub (lc' := [(0, rv (b + 1)), (1, rv x), (2, rv (t + 1)), (3, rv o), (4, .int x237)]) [3, 4, 5, 6, 0] rfl ?_
            exact hX23 _ _ _ _ _ _ _ _ hw
          · have hw := it_f hw c236
            refine gj_iconst (v := 0) C dL_law_749 rfl ?_
            obtain ⟨h238, hw⟩ := hw
            exact lp_ret B h238 hw dL_law_750
      · have hw := it_f hw c231
        refine gj_iconst (v := 0) C dL_law_732 rfl ?_
        obtain ⟨h239, hw⟩ := hw
        exact lp_ret B h239 hw dL_law_733
    have hw := it_f hw c210
    by_cases c240 : ((xs (Int32.toNatClampNeg v4)) &&& 63) = 9
    · have hw := it_t hw c240
      refine gj_tabIn (v := 9) (tgt := 754) C dL_law_40 c240 (by decide) (by decide) (by rfl) rfl ?_
      refine gj_aload_n C dL_law_754 1 rfl ?_
      obtain ⟨h241, hw⟩ := hw
      obtain ⟨h242, hw⟩ := hw
      refine lp_enterC (fun H hT => ?_)
      refine tc_X0_138 C hW h241 hw (lrm B (Nat.le_of_ble_eq_true rfl) (Nat.le_of_ble_eq_true rfl) h242) B.2.2.2.2.1 (gc_rest (Nat.le_of_ble_eq_true rfl)) dL_law_755 (fun _ _ _ _ _ _ _ _ _ _ _ hf => hf.elim) (fun z247 I243 R244 K245 n246 hw => ?_)
      refine lp_leaveC B hT ?_
      refine gj_aload_n C dL_law_758 2 rfl ?_
      obtain ⟨h251, hw⟩ := hw
      refine lp_enterT (fun H hC => ?_)
      refine tl_X3_back B hw h251 (gc_rest (Nat.le_of_ble_eq_true rfl)) dL_law_759 (fun z250 J248 l249 hw => ?_)
      refine lp_leaveT B hC ?_
      refine gj_icmp_eq (tgt := 2203) C dL_law_762 rfl (fun c252 => ?_) (fun c252 => ?_)
      · have hw := it_t hw c252
        obtain ⟨x253, ex253⟩ : ∃ x253 : Int32, x253 = v4 + 6 := ⟨_, rfl⟩
        have hw := hw x253 ex253
        refine gj_iinc (lc' := [(4, .int x253), (0, rv (b + 1)), (1, rv x), (2, rv (t + 1)), (3, rv o)]) (w := 6) (v := x253) C dL_law_2203 4 rfl rfl ex253.symm (Nat.le_of_ble_eq_true rfl) (show lst1 _ 4 _ = _ by simp [lst1, rv_cat]) ?_
        refine gj_goto (tgt := 23) C dL_law_2206 rfl ?_
        refine gj_sub (lc' := [(0, rv (b + 1)), (1, rv x), (2, rv (t + 1)), (3, rv o), (4, .int x253)]) [1, 2, 3, 4, 0] rfl ?_
        exact hX23 _ _ _ _ _ _ _ _ hw
      · have hw := it_f hw c252
        refine gj_iconst (v := 0) C dL_law_765 rfl ?_
        obtain ⟨h254, hw⟩ := hw
        exact lp_ret B h254 hw dL_law_766
    have hw := it_f hw c240
    by_cases c255 : ((xs (Int32.toNatClampNeg v4)) &&& 63) = 10
    · have hw := it_t hw c255
      refine gj_tabIn (v := 10) (tgt := 767) C dL_law_40 c255 (by decide) (by decide) (by rfl) rfl ?_
      refine gj_aload_n C dL_law_767 1 rfl ?_
      refine gj_aload_n C dL_law_768 0 rfl ?_
      refine gj_iload C dL_law_769 4 rfl ?_
      refine gj_iconst (v := 1) C dL_law_771 rfl ?_
      refine gj_iadd C dL_law_772 ?_
      obtain ⟨h256, hw⟩ := hw
      refine lp_iald B h256 dL_law_773 ?_
      obtain ⟨h257, hw⟩ := hw
      obtain ⟨h258, hw⟩ := hw
      refine lp_enterC (fun H hT => ?_)
      refine tc_X0_142 C hW h257 hw (lrm B (Nat.le_of_ble_eq_true rfl) (Nat.le_of_ble_eq_true rfl) h258) B.2.2.2.2.1 (gc_rest (Nat.le_of_ble_eq_true rfl)) dL_law_774 (fun _ _ _ _ _ _ _ _ _ _ _ hf => hf.elim) (fun I259 R260 K261 n262 hw => ?_)
      refine lp_leaveC B hT ?_
      refine gj_aload_n C dL_law_777 2 rfl ?_
      refine gj_aload_n C dL_law_778 0 rfl ?_
      refine gj_iload C dL_law_779 4 rfl ?_
      refine gj_iconst (v := 1) C dL_law_781 rfl ?_
      refine gj_iadd C dL_law_782 ?_
      obtain ⟨h264, hw⟩ := hw
      refine lp_iald B h264 dL_law_783 ?_
      obtain ⟨h268, hw⟩ := hw
      refine lp_enterT (fun H hC => ?_)
      refine tl_X3_draw B hw h268 (gc_rest (Nat.le_of_ble_eq_true rfl)) dL_law_784 (fun J265 l266 hw => ?_)
      refine lp_leaveT B hC ?_
      refine gj_goto (tgt := 2203) C dL_law_787 rfl ?_
      obtain ⟨x269, ex269⟩ : ∃ x269 : Int32, x269 = v4 + 6 := ⟨_, rfl⟩
      have hw := hw x269 ex269
      refine gj_iinc (lc' := [(4, .int x269), (0, rv (b + 1)), (1, rv x), (2, rv (t + 1)), (3, rv o)]) (w := 6) (v := x269) C dL_law_2203 4 rfl rfl ex269.symm (Nat.le_of_ble_eq_true rfl) (show lst1 _ 4 _ = _ by simp [lst1, rv_cat]) ?_
      refine gj_goto (tgt := 23) C dL_law_2206 rfl ?_
      refine gj_sub (lc' := [(0, rv (b + 1)), (1, rv x), (2, rv (t + 1)), (3, rv o), (4, .int x269)]) [1, 2, 3, 4, 0] rfl ?_
      exact hX23 _ _ _ _ _ _ _ _ hw
    have hw := it_f hw c255
    by_cases c270 : ((xs (Int32.toNatClampNeg v4)) &&& 63) = 11
    · have hw := it_t hw c270
      refine gj_tabIn (v := 11) (tgt := 790) C dL_law_40 c270 (by decide) (by decide) (by rfl) rfl ?_
      refine gj_aload_n C dL_law_790 1 rfl ?_
      refine gj_aload_n C dL_law_791 0 rfl ?_
      refine gj_iload C dL_law_792 4 rfl ?_
      refine gj_iconst (v := 1) C dL_law_794 rfl ?_
      refine gj_iadd C dL_law_795 ?_
      obtain ⟨h271, hw⟩ := hw
      refine lp_iald B h271 dL_law_796 ?_
      refine gj_aload_n C dL_law_797 0 rfl ?_
      refine gj_iload C dL_law_798 4 rfl ?_
      refine gj_iconst (v := 2) C dL_law_800 rfl ?_
      refine gj_iadd C dL_law_801 ?_
      obtain ⟨h272, hw⟩ := hw
      refine lp_iald B h272 dL_law_802 ?_
      refine gj_aload_n C dL_law_803 3 rfl ?_
      obtain ⟨h273, hw⟩ := hw
      refine lp_enterC (fun H hT => ?_)
      refine tc_X0_147 C hW hw (lrm B (Nat.le_of_ble_eq_true rfl) (Nat.le_of_ble_eq_true rfl) h273) B.2.2.2.2.1 (gc_rest (Nat.le_of_ble_eq_true rfl)) dL_law_804 (fun _ _ _ _ _ _ _ _ _ _ _ hf => hf.elim) (fun z278 I274 R275 K276 n277 hw => ?_)
      refine lp_leaveC B hT ?_
      refine gj_istore (lc' := [(5, .int z278), (0, rv (b + 1)), (1, rv x), (2, rv (t + 1)), (3, rv o), (4, .int v4)]) C dL_law_807 (Nat.le_of_ble_eq_true rfl) rfl ?_
      refine gj_aload_n C dL_law_809 3 rfl ?_
      refine gj_aload_n C dL_law_810 1 rfl ?_
      refine gj_iload C dL_law_811 5 rfl ?_
      refine gj_iconst (v := 1) C dL_law_813 rfl ?_
      refine gj_iadd C dL_law_814 ?_
      obtain ⟨h279, hw⟩ := hw
      refine lp_iald B h279 dL_law_815 ?_
      refine gj_aload_n C dL_law_816 1 rfl ?_
      refine gj_iload C dL_law_817 5 rfl ?_
      refine gj_iconst (v := 2) C dL_law_819 rfl ?_
      refine gj_iadd C dL_law_820 ?_
      obtain ⟨h280, hw⟩ := hw
      refine lp_iald B h280 dL_law_821 ?_
      obtain ⟨h284, hw⟩ := hw
      refine lp_enterT (fun H hC => ?_)
      refine tl_X3_does B hw h284 (gc_rest (Nat.le_of_ble_eq_true rfl)) dL_law_822 (fun z283 J281 l282 hw => ?_)
      refine lp_leaveT B hC ?_
      refine gj_istore (lc' := [(6, .int z283), (5, .int z278), (0, rv (b + 1)), (1, rv x), (2, rv (t + 1)), (3, rv o), (4, .int v4)]) C dL_law_825 (Nat.le_of_ble_eq_true rfl) rfl ?_
      refine gj_aload_n C dL_law_827 4 rfl ?_
      obtain ⟨h288, hw⟩ := hw
      refine lp_enterT (fun H hC => ?_)
      refine tl_X3_thrown B hw h288 (gc_rest (Nat.le_of_ble_eq_true rfl)) dL_law_828 (fun z287 J285 l286 hw => ?_)
      refine lp_leaveT B hC ?_
      refine gj_iload C dL_law_831 1 rfl ?_
      refine gj_icmp_eq (tgt := 838) C dL_law_833 rfl (fun c289 => ?_) (fun c289 => ?_)
      · have hw := it_t hw c289
        refine gj_iload C dL_law_838 1 rfl ?_
        refine gj_if_ne (tgt := 855) C dL_law_840 rfl (fun c290 => ?_) (fun c290 => ?_)
        · have hw := it_f hw c290
          refine gj_goto (tgt := 2203) C dL_law_855 rfl ?_
          obtain ⟨x291, ex291⟩ : ∃ x291 : Int32, x291 = v4 + 6 := ⟨_, rfl⟩
          have hw := hw x291 ex291
          refine gj_iinc (lc' := [(4, .int x291), (6, .int z283), (5, .int z278), (0, rv (b + 1)), (1, rv x), (2, rv (t + 1)), (3, rv o)]) (w := 6) (v := x291) C dL_law_2203 6 rfl rfl ex291.symm (Nat.le_of_ble_eq_true rfl) (show lst1 _ 4 _ = _ by simp [lst1, rv_cat]) ?_
          refine gj_goto (tgt := 23) C dL_law_2206 rfl ?_
          refine gj_sub (lc' := [(0, rv (b + 1)), (1, rv x), (2, rv (t + 1)), (3, rv o), (4, .int x291)]) [3, 4, 5, 6, 0] rfl ?_
          exact hX23 _ _ _ _ _ _ _ _ hw
        · have hw := it_t hw c290
          refine gj_aload_n C dL_law_843 5 rfl ?_
          refine gj_iconst (v := 0) C dL_law_844 rfl ?_
          obtain ⟨h292, hw⟩ := hw
          obtain ⟨h293, hw⟩ := hw
          refine lp_lald B h292 h293 dL_law_845 ?_
          refine gj_iload C dL_law_846 0 rfl ?_
          refine gj_i2l C dL_law_848 ?_
          refine gj_lcmp C dL_law_849 ?_
          refine gj_if_eq (tgt := 855) C dL_law_850 rfl (fun c294 => ?_) (fun c294 => ?_)
          · have hw := it_t hw c294
            refine gj_goto (tgt := 2203) C dL_law_855 rfl ?_
            obtain ⟨x295, ex295⟩ : ∃ x295 : Int32, x295 = v4 + 6 := ⟨_, rfl⟩
            have hw := hw x295 ex295
            refine gj_iinc (lc' := [(4, .int x295), (6, .int z283), (5, .int z278), (0, rv (b + 1)), (1, rv x), (2, rv (t + 1)), (3, rv o)]) (w := 6) (v := x295) C dL_law_2203 6 rfl rfl ex295.symm (Nat.le_of_ble_eq_true rfl) (show lst1 _ 4 _ = _ by simp [lst1, rv_cat]) ?_
            refine gj_goto (tgt := 23) C dL_law_2206 rfl ?_
            refine gj_sub (lc' := [(0, rv (b + 1)), (1, rv x), (2, rv (t + 1)), (3, rv o), (4, .int x295)]) [3, 4, 5, 6, 0] rfl ?_
            exact hX23 _ _ _ _ _ _ _ _ hw
          · have hw := it_f hw c294
            refine gj_iconst (v := 0) C dL_law_853 rfl ?_
            obtain ⟨h296, hw⟩ := hw
            exact lp_ret B h296 hw dL_law_854
      · have hw := it_f hw c289
        refine gj_iconst (v := 0) C dL_law_836 rfl ?_
        obtain ⟨h297, hw⟩ := hw
        exact lp_ret B h297 hw dL_law_837
    have hw := it_f hw c270
    by_cases c298 : ((xs (Int32.toNatClampNeg v4)) &&& 63) = 12
    · have hw := it_t hw c298
      refine gj_tabIn (v := 12) (tgt := 858) C dL_law_40 c298 (by decide) (by decide) (by rfl) rfl ?_
      refine gj_aload_n C dL_law_858 1 rfl ?_
      refine gj_aload_n C dL_law_859 0 rfl ?_
      refine gj_iload C dL_law_860 4 rfl ?_
      refine gj_iconst (v := 1) C dL_law_862 rfl ?_
      refine gj_iadd C dL_law_863 ?_
      obtain ⟨h299, hw⟩ := hw
      refine lp_iald B h299 dL_law_864 ?_
      refine gj_aload_n C dL_law_865 0 rfl ?_
      refine gj_iload C dL_law_866 4 rfl ?_
      refine gj_iconst (v := 2) C dL_law_868 rfl ?_
      refine gj_iadd C dL_law_869 ?_
      obtain ⟨h300, hw⟩ := hw
      refine lp_iald B h300 dL_law_870 ?_
      refine gj_aload_n C dL_law_871 3 rfl ?_
      obtain ⟨h301, hw⟩ := hw
      refine lp_enterC (fun H hT => ?_)
      refine tc_X0_150 C hW hw (lrm B (Nat.le_of_ble_eq_true rfl) (Nat.le_of_ble_eq_true rfl) h301) B.2.2.2.2.1 (gc_rest (Nat.le_of_ble_eq_true rfl)) dL_law_872 (fun _ _ _ _ _ _ _ _ _ _ _ hf => hf.elim) (fun z306 I302 R303 K304 n305 hw => ?_)
      refine lp_leaveC B hT ?_
      refine gj_istore (lc' := [(5, .int z306), (0, rv (b + 1)), (1, rv x), (2, rv (t + 1)), (3, rv o), (4, .int v4)]) C dL_law_875 (Nat.le_of_ble_eq_true rfl) rfl ?_
      refine gj_aload_n C dL_law_877 3 rfl ?_
      refine gj_aload_n C dL_law_878 1 rfl ?_
      refine gj_iload C dL_law_879 5 rfl ?_
      refine gj_iconst (v := 1) C dL_law_881 rfl ?_
      refine gj_iadd C dL_law_882 ?_
      obtain ⟨h307, hw⟩ := hw
      refine lp_iald B h307 dL_law_883 ?_
      refine gj_aload_n C dL_law_884 1 rfl ?_
      refine gj_iload C dL_law_885 5 rfl ?_
      refine gj_iconst (v := 2) C dL_law_887 rfl ?_
      refine gj_iadd C dL_law_888 ?_
      obtain ⟨h308, hw⟩ := hw
      refine lp_iald B h308 dL_law_889 ?_
      obtain ⟨h312, hw⟩ := hw
      refine lp_enterT (fun H hC => ?_)
      refine tl_X3_sign B hw h312 (gc_rest (Nat.le_of_ble_eq_true rfl)) dL_law_890 (fun z311 J309 l310 hw => ?_)
      refine lp_leaveT B hC ?_
      refine gj_istore (lc' := [(6, .int z311), (5, .int z306), (0, rv (b + 1)), (1, rv x), (2, rv (t + 1)), (3, rv o), (4, .int v4)]) C dL_law_893 (Nat.le_of_ble_eq_true rfl) rfl ?_
      refine gj_aload_n C dL_law_895 4 rfl ?_
      obtain ⟨h316, hw⟩ := hw
      refine lp_enterT (fun H hC => ?_)
      refine tl_X3_thrown B hw h316 (gc_rest (Nat.le_of_ble_eq_true rfl)) dL_law_896 (fun z315 J313 l314 hw => ?_)
      refine lp_leaveT B hC ?_
      refine gj_iload C dL_law_899 1 rfl ?_
      refine gj_icmp_eq (tgt := 906) C dL_law_901 rfl (fun c317 => ?_) (fun c317 => ?_)
      · have hw := it_t hw c317
        refine gj_iload C dL_law_906 1 rfl ?_
        refine gj_if_ne (tgt := 923) C dL_law_908 rfl (fun c318 => ?_) (fun c318 => ?_)
        · have hw := it_f hw c318
          refine gj_goto (tgt := 2203) C dL_law_923 rfl ?_
          obtain ⟨x319, ex319⟩ : ∃ x319 : Int32, x319 = v4 + 6 := ⟨_, rfl⟩
          have hw := hw x319 ex319
          refine gj_iinc (lc' := [(4, .int x319), (6, .int z311), (5, .int z306), (0, rv (b + 1)), (1, rv x), (2, rv (t + 1)), (3, rv o)]) (w := 6) (v := x319) C dL_law_2203 6 rfl rfl ex319.symm (Nat.le_of_ble_eq_true rfl) (show lst1 _ 4 _ = _ by simp [lst1, rv_cat]) ?_
          refine gj_goto (tgt := 23) C dL_law_2206 rfl ?_
          refine gj_sub (lc' := [(0, rv (b + 1)), (1, rv x), (2, rv (t + 1)), (3, rv o), (4, .int x319)]) [3, 4, 5, 6, 0] rfl ?_
          exact hX23 _ _ _ _ _ _ _ _ hw
        · have hw := it_t hw c318
          refine gj_aload_n C dL_law_911 5 rfl ?_
          refine gj_iconst (v := 0) C dL_law_912 rfl ?_
          obtain ⟨h320, hw⟩ := hw
          obtain ⟨h321, hw⟩ := hw
          refine lp_lald B h320 h321 dL_law_913 ?_
          refine gj_iload C dL_law_914 0 rfl ?_
          refine gj_i2l C dL_law_916 ?_
          refine gj_lcmp C dL_law_917 ?_
          refine gj_if_eq (tgt := 923) C dL_law_918 rfl (fun c322 => ?_) (fun c322 => ?_)
          · have hw := it_t hw c322
            refine gj_goto (tgt := 2203) C dL_law_923 rfl ?_
            obtain ⟨x323, ex323⟩ : ∃ x323 : Int32, x323 = v4 + 6 := ⟨_, rfl⟩
            have hw := hw x323 ex323
            refine gj_iinc (lc' := [(4, .int x323), (6, .int z311), (5, .int z306), (0, rv (b + 1)), (1, rv x), (2, rv (t + 1)), (3, rv o)]) (w := 6) (v := x323) C dL_law_2203 6 rfl rfl ex323.symm (Nat.le_of_ble_eq_true rfl) (show lst1 _ 4 _ = _ by simp [lst1, rv_cat]) ?_
            refine gj_goto (tgt := 23) C dL_law_2206 rfl ?_
            refine gj_sub (lc' := [(0, rv (b + 1)), (1, rv x), (2, rv (t + 1)), (3, rv o), (4, .int x323)]) [3, 4, 5, 6, 0] rfl ?_
            exact hX23 _ _ _ _ _ _ _ _ hw
          · have hw := it_f hw c322
            refine gj_iconst (v := 0) C dL_law_921 rfl ?_
            obtain ⟨h324, hw⟩ := hw
            exact lp_ret B h324 hw dL_law_922
      · have hw := it_f hw c317
        refine gj_iconst (v := 0) C dL_law_904 rfl ?_
        obtain ⟨h325, hw⟩ := hw
        exact lp_ret B h325 hw dL_law_905
    have hw := it_f hw c298
    by_cases c326 : ((xs (Int32.toNatClampNeg v4)) &&& 63) = 13
    · have hw := it_t hw c326
      refine gj_tabIn (v := 13) (tgt := 926) C dL_law_40 c326 (by decide) (by decide) (by rfl) rfl ?_
      refine gj_aload_n C dL_law_926 1 rfl ?_
      refine gj_aload_n C dL_law_927 0 rfl ?_
      refine gj_iload C dL_law_928 4 rfl ?_
      refine gj_iconst (v := 1) C dL_law_930 rfl ?_
      refine gj_iadd C dL_law_931 ?_
      obtain ⟨h327, hw⟩ := hw
      refine lp_iald B h327 dL_law_932 ?_
      refine gj_aload_n C dL_law_933 0 rfl ?_
      refine gj_iload C dL_law_934 4 rfl ?_
      refine gj_iconst (v := 2) C dL_law_936 rfl ?_
      refine gj_iadd C dL_law_937 ?_
      obtain ⟨h328, hw⟩ := hw
      refine lp_iald B h328 dL_law_938 ?_
      refine gj_aload_n C dL_law_939 0 rfl ?_
      refine gj_iload C dL_law_940 4 rfl ?_
      refine gj_iconst (v := 3) C dL_law_942 rfl ?_
      refine gj_iadd C dL_law_943 ?_
      obtain ⟨h329, hw⟩ := hw
      refine lp_iald B h329 dL_law_944 ?_
      refine gj_aload_n C dL_law_945 3 rfl ?_
      obtain ⟨h330, hw⟩ := hw
      refine lp_enterC (fun H hT => ?_)
      refine tc_X0_153 C hW hw (lrm B (Nat.le_of_ble_eq_true rfl) (Nat.le_of_ble_eq_true rfl) h330) B.2.2.2.2.1 (gc_rest (Nat.le_of_ble_eq_true rfl)) dL_law_946 (fun _ _ _ _ _ _ _ _ _ _ _ hf => hf.elim) (fun z335 I331 R332 K333 n334 hw => ?_)
      refine lp_leaveC B hT ?_
      refine gj_istore (lc' := [(5, .int z335), (0, rv (b + 1)), (1, rv x), (2, rv (t + 1)), (3, rv o), (4, .int v4)]) C dL_law_949 (Nat.le_of_ble_eq_true rfl) rfl ?_
      refine gj_aload_n C dL_law_951 3 rfl ?_
      refine gj_aload_n C dL_law_952 1 rfl ?_
      refine gj_iload C dL_law_953 5 rfl ?_
      refine gj_iconst (v := 1) C dL_law_955 rfl ?_
      refine gj_iadd C dL_law_956 ?_
      obtain ⟨h336, hw⟩ := hw
      refine lp_iald B h336 dL_law_957 ?_
      refine gj_aload_n C dL_law_958 1 rfl ?_
      refine gj_iload C dL_law_959 5 rfl ?_
      refine gj_iconst (v := 2) C dL_law_961 rfl ?_
      refine gj_iadd C dL_law_962 ?_
      obtain ⟨h337, hw⟩ := hw
      refine lp_iald B h337 dL_law_963 ?_
      refine gj_aload_n C dL_law_964 1 rfl ?_
      refine gj_iload C dL_law_965 5 rfl ?_
      refine gj_iconst (v := 3) C dL_law_967 rfl ?_
      refine gj_iadd C dL_law_968 ?_
      obtain ⟨h338, hw⟩ := hw
      refine lp_iald B h338 dL_law_969 ?_
      obtain ⟨h342, hw⟩ := hw
      refine lp_enterT (fun H hC => ?_)
      refine tl_X3_look B hw h342 (gc_rest (Nat.le_of_ble_eq_true rfl)) dL_law_970 (fun z341 J339 l340 hw => ?_)
      refine lp_leaveT B hC ?_
      refine gj_istore (lc' := [(6, .int z341), (5, .int z335), (0, rv (b + 1)), (1, rv x), (2, rv (t + 1)), (3, rv o), (4, .int v4)]) C dL_law_973 (Nat.le_of_ble_eq_true rfl) rfl ?_
      refine gj_aload_n C dL_law_975 4 rfl ?_
      obtain ⟨h346, hw⟩ := hw
      refine lp_enterT (fun H hC => ?_)
      refine tl_X3_thrown B hw h346 (gc_rest (Nat.le_of_ble_eq_true rfl)) dL_law_976 (fun z345 J343 l344 hw => ?_)
      refine lp_leaveT B hC ?_
      refine gj_iload C dL_law_979 1 rfl ?_
      refine gj_icmp_eq (tgt := 986) C dL_law_981 rfl (fun c347 => ?_) (fun c347 => ?_)
      · have hw := it_t hw c347
        refine gj_iload C dL_law_986 1 rfl ?_
        refine gj_if_ne (tgt := 1003) C dL_law_988 rfl (fun c348 => ?_) (fun c348 => ?_)
        · have hw := it_f hw c348
          refine gj_goto (tgt := 2203) C dL_law_1003 rfl ?_
          obtain ⟨x349, ex349⟩ : ∃ x349 : Int32, x349 = v4 + 6 := ⟨_, rfl⟩
          have hw := hw x349 ex349
          refine gj_iinc (lc' := [(4, .int x349), (6, .int z341), (5, .int z335), (0, rv (b + 1)), (1, rv x), (2, rv (t + 1)), (3, rv o)]) (w := 6) (v := x349) C dL_law_2203 6 rfl rfl ex349.symm (Nat.le_of_ble_eq_true rfl) (show lst1 _ 4 _ = _ by simp [lst1, rv_cat]) ?_
          refine gj_goto (tgt := 23) C dL_law_2206 rfl ?_
          refine gj_sub (lc' := [(0, rv (b + 1)), (1, rv x), (2, rv (t + 1)), (3, rv o), (4, .int x349)]) [3, 4, 5, 6, 0] rfl ?_
          exact hX23 _ _ _ _ _ _ _ _ hw
        · have hw := it_t hw c348
          refine gj_aload_n C dL_law_991 5 rfl ?_
          refine gj_iconst (v := 0) C dL_law_992 rfl ?_
          obtain ⟨h350, hw⟩ := hw
          obtain ⟨h351, hw⟩ := hw
          refine lp_lald B h350 h351 dL_law_993 ?_
          refine gj_iload C dL_law_994 0 rfl ?_
          refine gj_i2l C dL_law_996 ?_
          refine gj_lcmp C dL_law_997 ?_
          refine gj_if_eq (tgt := 1003) C dL_law_998 rfl (fun c352 => ?_) (fun c352 => ?_)
          · have hw := it_t hw c352
            refine gj_goto (tgt := 2203) C dL_law_1003 rfl ?_
            obtain ⟨x353, ex353⟩ : ∃ x353 : Int32, x353 = v4 + 6 := ⟨_, rfl⟩
            have hw := hw x353 ex353
            refine gj_iinc (lc' := [(4, .int x353), (6, .int z341), (5, .int z335), (0, rv (b + 1)), (1, rv x), (2, rv (t + 1)), (3, rv o)]) (w := 6) (v := x353) C dL_law_2203 6 rfl rfl ex353.symm (Nat.le_of_ble_eq_true rfl) (show lst1 _ 4 _ = _ by simp [lst1, rv_cat]) ?_
            refine gj_goto (tgt := 23) C dL_law_2206 rfl ?_
            refine gj_sub (lc' := [(0, rv (b + 1)), (1, rv x), (2, rv (t + 1)), (3, rv o), (4, .int x353)]) [3, 4, 5, 6, 0] rfl ?_
            exact hX23 _ _ _ _ _ _ _ _ hw
          · have hw := it_f hw c352
            refine gj_iconst (v := 0) C dL_law_1001 rfl ?_
            obtain ⟨h354, hw⟩ := hw
            exact lp_ret B h354 hw dL_law_1002
      · have hw := it_f hw c347
        refine gj_iconst (v := 0) C dL_law_984 rfl ?_
        obtain ⟨h355, hw⟩ := hw
        exact lp_ret B h355 hw dL_law_985
    have hw := it_f hw c326
    by_cases c356 : ((xs (Int32.toNatClampNeg v4)) &&& 63) = 14
    · have hw := it_t hw c356
      refine gj_tabIn (v := 14) (tgt := 1006) C dL_law_40 c356 (by decide) (by decide) (by rfl) rfl ?_
      refine gj_aload_n C dL_law_1006 1 rfl ?_
      refine gj_aload_n C dL_law_1007 0 rfl ?_
      refine gj_iload C dL_law_1008 4 rfl ?_
      refine gj_iconst (v := 1) C dL_law_1010 rfl ?_
      refine gj_iadd C dL_law_1011 ?_
      obtain ⟨h357, hw⟩ := hw
      refine lp_iald B h357 dL_law_1012 ?_
      refine gj_aload_n C dL_law_1013 0 rfl ?_
      refine gj_iload C dL_law_1014 4 rfl ?_
      refine gj_iconst (v := 2) C dL_law_1016 rfl ?_
      refine gj_iadd C dL_law_1017 ?_
      obtain ⟨h358, hw⟩ := hw
      refine lp_iald B h358 dL_law_1018 ?_
      refine gj_aload_n C dL_law_1019 3 rfl ?_
      obtain ⟨h359, hw⟩ := hw
      refine lp_enterC (fun H hT => ?_)
      refine tc_X0_156 C hW hw (lrm B (Nat.le_of_ble_eq_true rfl) (Nat.le_of_ble_eq_true rfl) h359) B.2.2.2.2.1 (gc_rest (Nat.le_of_ble_eq_true rfl)) dL_law_1020 (fun _ _ _ _ _ _ _ _ _ _ _ hf => hf.elim) (fun z364 I360 R361 K362 n363 hw => ?_)
      refine lp_leaveC B hT ?_
      refine gj_istore (lc' := [(5, .int z364), (0, rv (b + 1)), (1, rv x), (2, rv (t + 1)), (3, rv o), (4, .int v4)]) C dL_law_1023 (Nat.le_of_ble_eq_true rfl) rfl ?_
      refine gj_aload_n C dL_law_1025 3 rfl ?_
      refine gj_aload_n C dL_law_1026 1 rfl ?_
      refine gj_iload C dL_law_1027 5 rfl ?_
      refine gj_iconst (v := 1) C dL_law_1029 rfl ?_
      refine gj_iadd C dL_law_1030 ?_
      obtain ⟨h365, hw⟩ := hw
      refine lp_iald B h365 dL_law_1031 ?_
      refine gj_aload_n C dL_law_1032 1 rfl ?_
      refine gj_iload C dL_law_1033 5 rfl ?_
      refine gj_iconst (v := 2) C dL_law_1035 rfl ?_
      refine gj_iadd C dL_law_1036 ?_
      obtain ⟨h366, hw⟩ := hw
      refine lp_iald B h366 dL_law_1037 ?_
      obtain ⟨h370, hw⟩ := hw
      refine lp_enterT (fun H hC => ?_)
      refine tl_X3_theft B hw h370 (gc_rest (Nat.le_of_ble_eq_true rfl)) dL_law_1038 (fun z369 J367 l368 hw => ?_)
      refine lp_leaveT B hC ?_
      refine gj_istore (lc' := [(6, .int z369), (5, .int z364), (0, rv (b + 1)), (1, rv x), (2, rv (t + 1)), (3, rv o), (4, .int v4)]) C dL_law_1041 (Nat.le_of_ble_eq_true rfl) rfl ?_
      refine gj_aload_n C dL_law_1043 4 rfl ?_
      obtain ⟨h374, hw⟩ := hw
      refine lp_enterT (fun H hC => ?_)
      refine tl_X3_thrown B hw h374 (gc_rest (Nat.le_of_ble_eq_true rfl)) dL_law_1044 (fun z373 J371 l372 hw => ?_)
      refine lp_leaveT B hC ?_
      refine gj_iload C dL_law_1047 1 rfl ?_
      refine gj_icmp_eq (tgt := 1054) C dL_law_1049 rfl (fun c375 => ?_) (fun c375 => ?_)
      · have hw := it_t hw c375
        refine gj_iload C dL_law_1054 1 rfl ?_
        refine gj_if_ne (tgt := 1071) C dL_law_1056 rfl (fun c376 => ?_) (fun c376 => ?_)
        · have hw := it_f hw c376
          refine gj_goto (tgt := 2203) C dL_law_1071 rfl ?_
          obtain ⟨x377, ex377⟩ : ∃ x377 : Int32, x377 = v4 + 6 := ⟨_, rfl⟩
          have hw := hw x377 ex377
          refine gj_iinc (lc' := [(4, .int x377), (6, .int z369), (5, .int z364), (0, rv (b + 1)), (1, rv x), (2, rv (t + 1)), (3, rv o)]) (w := 6) (v := x377) C dL_law_2203 6 rfl rfl ex377.symm (Nat.le_of_ble_eq_true rfl) (show lst1 _ 4 _ = _ by simp [lst1, rv_cat]) ?_
          refine gj_goto (tgt := 23) C dL_law_2206 rfl ?_
          refine gj_sub (lc' := [(0, rv (b + 1)), (1, rv x), (2, rv (t + 1)), (3, rv o), (4, .int x377)]) [3, 4, 5, 6, 0] rfl ?_
          exact hX23 _ _ _ _ _ _ _ _ hw
        · have hw := it_t hw c376
          refine gj_aload_n C dL_law_1059 5 rfl ?_
          refine gj_iconst (v := 0) C dL_law_1060 rfl ?_
          obtain ⟨h378, hw⟩ := hw
          obtain ⟨h379, hw⟩ := hw
          refine lp_lald B h378 h379 dL_law_1061 ?_
          refine gj_iload C dL_law_1062 0 rfl ?_
          refine gj_i2l C dL_law_1064 ?_
          refine gj_lcmp C dL_law_1065 ?_
          refine gj_if_eq (tgt := 1071) C dL_law_1066 rfl (fun c380 => ?_) (fun c380 => ?_)
          · have hw := it_t hw c380
            refine gj_goto (tgt := 2203) C dL_law_1071 rfl ?_
            obtain ⟨x381, ex381⟩ : ∃ x381 : Int32, x381 = v4 + 6 := ⟨_, rfl⟩
            have hw := hw x381 ex381
            refine gj_iinc (lc' := [(4, .int x381), (6, .int z369), (5, .int z364), (0, rv (b + 1)), (1, rv x), (2, rv (t + 1)), (3, rv o)]) (w := 6) (v := x381) C dL_law_2203 6 rfl rfl ex381.symm (Nat.le_of_ble_eq_true rfl) (show lst1 _ 4 _ = _ by simp [lst1, rv_cat]) ?_
            refine gj_goto (tgt := 23) C dL_law_2206 rfl ?_
            refine gj_sub (lc' := [(0, rv (b + 1)), (1, rv x), (2, rv (t + 1)), (3, rv o), (4, .int x381)]) [3, 4, 5, 6, 0] rfl ?_
            exact hX23 _ _ _ _ _ _ _ _ hw
          · have hw := it_f hw c380
            refine gj_iconst (v := 0) C dL_law_1069 rfl ?_
            obtain ⟨h382, hw⟩ := hw
            exact lp_ret B h382 hw dL_law_1070
      · have hw := it_f hw c375
        refine gj_iconst (v := 0) C dL_law_1052 rfl ?_
        obtain ⟨h383, hw⟩ := hw
        exact lp_ret B h383 hw dL_law_1053
    have hw := it_f hw c356
    by_cases c384 : ((xs (Int32.toNatClampNeg v4)) &&& 63) = 15
    · have hw := it_t hw c384
      refine gj_tabIn (v := 15) (tgt := 1074) C dL_law_40 c384 (by decide) (by decide) (by rfl) rfl ?_
      refine gj_aload_n C dL_law_1074 1 rfl ?_
      refine gj_aload_n C dL_law_1075 0 rfl ?_
      refine gj_iload C dL_law_1076 4 rfl ?_
      refine gj_iconst (v := 1) C dL_law_1078 rfl ?_
      refine gj_iadd C dL_law_1079 ?_
      obtain ⟨h385, hw⟩ := hw
      refine lp_iald B h385 dL_law_1080 ?_
      refine gj_aload_n C dL_law_1081 0 rfl ?_
      refine gj_iload C dL_law_1082 4 rfl ?_
      refine gj_iconst (v := 2) C dL_law_1084 rfl ?_
      refine gj_iadd C dL_law_1085 ?_
      obtain ⟨h386, hw⟩ := hw
      refine lp_iald B h386 dL_law_1086 ?_
      refine gj_aload_n C dL_law_1087 0 rfl ?_
      refine gj_iload C dL_law_1088 4 rfl ?_
      refine gj_iconst (v := 3) C dL_law_1090 rfl ?_
      refine gj_iadd C dL_law_1091 ?_
      obtain ⟨h387, hw⟩ := hw
      refine lp_iald B h387 dL_law_1092 ?_
      refine gj_aload_n C dL_law_1093 3 rfl ?_
      obtain ⟨h388, hw⟩ := hw
      refine lp_enterC (fun H hT => ?_)
      refine tc_X0_159 C hW hw (lrm B (Nat.le_of_ble_eq_true rfl) (Nat.le_of_ble_eq_true rfl) h388) B.2.2.2.2.1 (gc_rest (Nat.le_of_ble_eq_true rfl)) dL_law_1094 (fun _ _ _ _ _ _ _ _ _ _ _ hf => hf.elim) (fun z393 I389 R390 K391 n392 hw => ?_)
      refine lp_leaveC B hT ?_
      refine gj_istore (lc' := [(5, .int z393), (0, rv (b + 1)), (1, rv x), (2, rv (t + 1)), (3, rv o), (4, .int v4)]) C dL_law_1097 (Nat.le_of_ble_eq_true rfl) rfl ?_
      refine gj_aload_n C dL_law_1099 3 rfl ?_
      refine gj_aload_n C dL_law_1100 1 rfl ?_
      refine gj_iload C dL_law_1101 5 rfl ?_
      refine gj_iconst (v := 1) C dL_law_1103 rfl ?_
      refine gj_iadd C dL_law_1104 ?_
      obtain ⟨h394, hw⟩ := hw
      refine lp_iald B h394 dL_law_1105 ?_
      refine gj_aload_n C dL_law_1106 1 rfl ?_
      refine gj_iload C dL_law_1107 5 rfl ?_
      refine gj_iconst (v := 2) C dL_law_1109 rfl ?_
      refine gj_iadd C dL_law_1110 ?_
      obtain ⟨h395, hw⟩ := hw
      refine lp_iald B h395 dL_law_1111 ?_
      refine gj_aload_n C dL_law_1112 1 rfl ?_
      refine gj_iload C dL_law_1113 5 rfl ?_
      refine gj_iconst (v := 3) C dL_law_1115 rfl ?_
      refine gj_iadd C dL_law_1116 ?_
      obtain ⟨h396, hw⟩ := hw
      refine lp_iald B h396 dL_law_1117 ?_
      obtain ⟨h400, hw⟩ := hw
      refine lp_enterT (fun H hC => ?_)
      refine tl_X3_see B hw h400 (gc_rest (Nat.le_of_ble_eq_true rfl)) dL_law_1118 (fun z399 J397 l398 hw => ?_)
      refine lp_leaveT B hC ?_
      refine gj_istore (lc' := [(6, .int z399), (5, .int z393), (0, rv (b + 1)), (1, rv x), (2, rv (t + 1)), (3, rv o), (4, .int v4)]) C dL_law_1121 (Nat.le_of_ble_eq_true rfl) rfl ?_
      refine gj_aload_n C dL_law_1123 4 rfl ?_
      obtain ⟨h404, hw⟩ := hw
      refine lp_enterT (fun H hC => ?_)
      refine tl_X3_thrown B hw h404 (gc_rest (Nat.le_of_ble_eq_true rfl)) dL_law_1124 (fun z403 J401 l402 hw => ?_)
      refine lp_leaveT B hC ?_
      refine gj_iload C dL_law_1127 1 rfl ?_
      refine gj_icmp_eq (tgt := 1134) C dL_law_1129 rfl (fun c405 => ?_) (fun c405 => ?_)
      · have hw := it_t hw c405
        refine gj_iload C dL_law_1134 1 rfl ?_
        refine gj_if_ne (tgt := 1151) C dL_law_1136 rfl (fun c406 => ?_) (fun c406 => ?_)
        · have hw := it_f hw c406
          refine gj_goto (tgt := 2203) C dL_law_1151 rfl ?_
          obtain ⟨x407, ex407⟩ : ∃ x407 : Int32, x407 = v4 + 6 := ⟨_, rfl⟩
          have hw := hw x407 ex407
          refine gj_iinc (lc' := [(4, .int x407), (6, .int z399), (5, .int z393), (0, rv (b + 1)), (1, rv x), (2, rv (t + 1)), (3, rv o)]) (w := 6) (v := x407) C dL_law_2203 6 rfl rfl ex407.symm (Nat.le_of_ble_eq_true rfl) (show lst1 _ 4 _ = _ by simp [lst1, rv_cat]) ?_
          refine gj_goto (tgt := 23) C dL_law_2206 rfl ?_
          refine gj_sub (lc' := [(0, rv (b + 1)), (1, rv x), (2, rv (t + 1)), (3, rv o), (4, .int x407)]) [3, 4, 5, 6, 0] rfl ?_
          exact hX23 _ _ _ _ _ _ _ _ hw
        · have hw := it_t hw c406
          refine gj_aload_n C dL_law_1139 5 rfl ?_
          refine gj_iconst (v := 0) C dL_law_1140 rfl ?_
          obtain ⟨h408, hw⟩ := hw
          obtain ⟨h409, hw⟩ := hw
          refine lp_lald B h408 h409 dL_law_1141 ?_
          refine gj_iload C dL_law_1142 0 rfl ?_
          refine gj_i2l C dL_law_1144 ?_
          refine gj_lcmp C dL_law_1145 ?_
          refine gj_if_eq (tgt := 1151) C dL_law_1146 rfl (fun c410 => ?_) (fun c410 => ?_)
          · have hw := it_t hw c410
            refine gj_goto (tgt := 2203) C dL_law_1151 rfl ?_
            obtain ⟨x411, ex411⟩ : ∃ x411 : Int32, x411 = v4 + 6 := ⟨_, rfl⟩
            have hw := hw x411 ex411
            refine gj_iinc (lc' := [(4, .int x411), (6, .int z399), (5, .int z393), (0, rv (b + 1)), (1, rv x), (2, rv (t + 1)), (3, rv o)]) (w := 6) (v := x411) C dL_law_2203 6 rfl rfl ex411.symm (Nat.le_of_ble_eq_true rfl) (show lst1 _ 4 _ = _ by simp [lst1, rv_cat]) ?_
            refine gj_goto (tgt := 23) C dL_law_2206 rfl ?_
            refine gj_sub (lc' := [(0, rv (b + 1)), (1, rv x), (2, rv (t + 1)), (3, rv o), (4, .int x411)]) [3, 4, 5, 6, 0] rfl ?_
            exact hX23 _ _ _ _ _ _ _ _ hw
          · have hw := it_f hw c410
            refine gj_iconst (v := 0) C dL_law_1149 rfl ?_
            obtain ⟨h412, hw⟩ := hw
            exact lp_ret B h412 hw dL_law_1150
      · have hw := it_f hw c405
        refine gj_iconst (v := 0) C dL_law_1132 rfl ?_
        obtain ⟨h413, hw⟩ := hw
        exact lp_ret B h413 hw dL_law_1133
    have hw := it_f hw c384
    by_cases c414 : ((xs (Int32.toNatClampNeg v4)) &&& 63) = 16
    · have hw := it_t hw c414
      refine gj_tabIn (v := 16) (tgt := 1154) C dL_law_40 c414 (by decide) (by decide) (by rfl) rfl ?_
      refine gj_aload_n C dL_law_1154 1 rfl ?_
      obtain ⟨h415, hw⟩ := hw
      obtain ⟨h416, hw⟩ := hw
      refine lp_enterC (fun H hT => ?_)
      refine tc_X0_162 C hW h415 hw (lrm B (Nat.le_of_ble_eq_true rfl) (Nat.le_of_ble_eq_true rfl) h416) B.2.2.2.2.1 (gc_rest (Nat.le_of_ble_eq_true rfl)) dL_law_1155 (fun _ _ _ _ _ _ _ _ _ _ _ hf => hf.elim) (fun z421 I417 R418 K419 n420 hw => ?_)
      refine lp_leaveC B hT ?_
      refine gj_aload_n C dL_law_1158 2 rfl ?_
      obtain ⟨h425, hw⟩ := hw
      refine lp_enterT (fun H hC => ?_)
      refine tl_X3_forget B hw h425 (gc_rest (Nat.le_of_ble_eq_true rfl)) dL_law_1159 (fun z424 J422 l423 hw => ?_)
      refine lp_leaveT B hC ?_
      refine gj_icmp_eq (tgt := 2203) C dL_law_1162 rfl (fun c426 => ?_) (fun c426 => ?_)
      · have hw := it_t hw c426
        obtain ⟨x427, ex427⟩ : ∃ x427 : Int32, x427 = v4 + 6 := ⟨_, rfl⟩
        have hw := hw x427 ex427
        refine gj_iinc (lc' := [(4, .int x427), (0, rv (b + 1)), (1, rv x), (2, rv (t + 1)), (3, rv o)]) (w := 6) (v := x427) C dL_law_2203 4 rfl rfl ex427.symm (Nat.le_of_ble_eq_true rfl) (show lst1 _ 4 _ = _ by simp [lst1, rv_cat]) ?_
        refine gj_goto (tgt := 23) C dL_law_2206 rfl ?_
        refine gj_sub (lc' := [(0, rv (b + 1)), (1, rv x), (2, rv (t + 1)), (3, rv o), (4, .int x427)]) [1, 2, 3, 4, 0] rfl ?_
        exact hX23 _ _ _ _ _ _ _ _ hw
      · have hw := it_f hw c426
        refine gj_iconst (v := 0) C dL_law_1165 rfl ?_
        obtain ⟨h428, hw⟩ := hw
        exact lp_ret B h428 hw dL_law_1166
    have hw := it_f hw c414
    by_cases c429 : ((xs (Int32.toNatClampNeg v4)) &&& 63) = 17
    · have hw := it_t hw c429
      refine gj_tabIn (v := 17) (tgt := 1167) C dL_law_40 c429 (by decide) (by decide) (by rfl) rfl ?_
      refine gj_aload_n C dL_law_1167 1 rfl ?_
      obtain ⟨h430, hw⟩ := hw
      obtain ⟨h431, hw⟩ := hw
      refine lp_enterC (fun H hT => ?_)
      refine tc_X0_166 C hW h430 hw (lrm B (Nat.le_of_ble_eq_true rfl) (Nat.le_of_ble_eq_true rfl) h431) B.2.2.2.2.1 (gc_rest (Nat.le_of_ble_eq_true rfl)) dL_law_1168 (fun _ _ _ _ _ _ _ _ _ _ _ hf => hf.elim) (fun z436 I432 R433 K434 n435 hw => ?_)
      refine lp_leaveC B hT ?_
      refine gj_aload_n C dL_law_1171 2 rfl ?_
      obtain ⟨h440, hw⟩ := hw
      refine lp_enterT (fun H hC => ?_)
      refine tl_X3_cases B hw h440 (gc_rest (Nat.le_of_ble_eq_true rfl)) dL_law_1172 (fun z439 J437 l438 hw => ?_)
      refine lp_leaveT B hC ?_
      refine gj_icmp_eq (tgt := 2203) C dL_law_1175 rfl (fun c441 => ?_) (fun c441 => ?_)
      · have hw := it_t hw c441
        obtain ⟨x442, ex442⟩ : ∃ x442 : Int32, x442 = v4 + 6 := ⟨_, rfl⟩
        have hw := hw x442 ex442
        refine gj_iinc (lc' := [(4, .int x442), (0, rv (b + 1)), (1, rv x), (2, rv (t + 1)), (3, rv o)]) (w := 6) (v := x442) C dL_law_2203 4 rfl rfl ex442.symm (Nat.le_of_ble_eq_true rfl) (show lst1 _ 4 _ = _ by simp [lst1, rv_cat]) ?_
        refine gj_goto (tgt := 23) C dL_law_2206 rfl ?_
        refine gj_sub (lc' := [(0, rv (b + 1)), (1, rv x), (2, rv (t + 1)), (3, rv o), (4, .int x442)]) [1, 2, 3, 4, 0] rfl ?_
        exact hX23 _ _ _ _ _ _ _ _ hw
      · have hw := it_f hw c441
        refine gj_iconst (v := 0) C dL_law_1178 rfl ?_
        obtain ⟨h443, hw⟩ := hw
        exact lp_ret B h443 hw dL_law_1179
    have hw := it_f hw c429
    by_cases c444 : ((xs (Int32.toNatClampNeg v4)) &&& 63) = 18
    · have hw := it_t hw c444
      refine gj_tabIn (v := 18) (tgt := 1180) C dL_law_40 c444 (by decide) (by decide) (by rfl) rfl ?_
      refine gj_aload_n C dL_law_1180 1 rfl ?_
      refine gj_aload_n C dL_law_1181 0 rfl ?_
      refine gj_iload C dL_law_1182 4 rfl ?_
      refine gj_iconst (v := 1) C dL_law_1184 rfl ?_
      refine gj_iadd C dL_law_1185 ?_
      obtain ⟨h445, hw⟩ := hw
      refine lp_iald B h445 dL_law_1186 ?_
      refine gj_aload_n C dL_law_1187 0 rfl ?_
      refine gj_iload C dL_law_1188 4 rfl ?_
      refine gj_iconst (v := 2) C dL_law_1190 rfl ?_
      refine gj_iadd C dL_law_1191 ?_
      obtain ⟨h446, hw⟩ := hw
      refine lp_iald B h446 dL_law_1192 ?_
      refine gj_aload_n C dL_law_1193 3 rfl ?_
      obtain ⟨h447, hw⟩ := hw
      refine lp_enterC (fun H hT => ?_)
      refine tc_X0_170 C hW hw (lrm B (Nat.le_of_ble_eq_true rfl) (Nat.le_of_ble_eq_true rfl) h447) B.2.2.2.2.1 (gc_rest (Nat.le_of_ble_eq_true rfl)) dL_law_1194 (fun _ _ _ _ _ _ _ _ _ _ _ hf => hf.elim) (fun z452 I448 R449 K450 n451 hw => ?_)
      refine lp_leaveC B hT ?_
      refine gj_istore (lc' := [(5, .int z452), (0, rv (b + 1)), (1, rv x), (2, rv (t + 1)), (3, rv o), (4, .int v4)]) C dL_law_1197 (Nat.le_of_ble_eq_true rfl) rfl ?_
      refine gj_aload_n C dL_law_1199 3 rfl ?_
      refine gj_aload_n C dL_law_1200 1 rfl ?_
      refine gj_iload C dL_law_1201 5 rfl ?_
      refine gj_iconst (v := 1) C dL_law_1203 rfl ?_
      refine gj_iadd C dL_law_1204 ?_
      obtain ⟨h453, hw⟩ := hw
      refine lp_iald B h453 dL_law_1205 ?_
      refine gj_aload_n C dL_law_1206 1 rfl ?_
      refine gj_iload C dL_law_1207 5 rfl ?_
      refine gj_iconst (v := 2) C dL_law_1209 rfl ?_
      refine gj_iadd C dL_law_1210 ?_
      obtain ⟨h454, hw⟩ := hw
      refine lp_iald B h454 dL_law_1211 ?_
      obtain ⟨h458, hw⟩ := hw
      refine lp_enterT (fun H hC => ?_)
      refine tl_X3_inCase B hw h458 (gc_rest (Nat.le_of_ble_eq_true rfl)) dL_law_1212 (fun z457 J455 l456 hw => ?_)
      refine lp_leaveT B hC ?_
      refine gj_istore (lc' := [(6, .int z457), (5, .int z452), (0, rv (b + 1)), (1, rv x), (2, rv (t + 1)), (3, rv o), (4, .int v4)]) C dL_law_1215 (Nat.le_of_ble_eq_true rfl) rfl ?_
      refine gj_aload_n C dL_law_1217 4 rfl ?_
      obtain ⟨h462, hw⟩ := hw
      refine lp_enterT (fun H hC => ?_)
      refine tl_X3_thrown B hw h462 (gc_rest (Nat.le_of_ble_eq_true rfl)) dL_law_1218 (fun z461 J459 l460 hw => ?_)
      refine lp_leaveT B hC ?_
      refine gj_iload C dL_law_1221 1 rfl ?_
      refine gj_icmp_eq (tgt := 1228) C dL_law_1223 rfl (fun c463 => ?_) (fun c463 => ?_)
      · have hw := it_t hw c463
        refine gj_iload C dL_law_1228 1 rfl ?_
        refine gj_if_ne (tgt := 1245) C dL_law_1230 rfl (fun c464 => ?_) (fun c464 => ?_)
        · have hw := it_f hw c464
          refine gj_goto (tgt := 2203) C dL_law_1245 rfl ?_
          obtain ⟨x465, ex465⟩ : ∃ x465 : Int32, x465 = v4 + 6 := ⟨_, rfl⟩
          have hw := hw x465 ex465
          refine gj_iinc (lc' := [(4, .int x465), (6, .int z457), (5, .int z452), (0, rv (b + 1)), (1, rv x), (2, rv (t + 1)), (3, rv o)]) (w := 6) (v := x465) C dL_law_2203 6 rfl rfl ex465.symm (Nat.le_of_ble_eq_true rfl) (show lst1 _ 4 _ = _ by simp [lst1, rv_cat]) ?_
          refine gj_goto (tgt := 23) C dL_law_2206 rfl ?_
          refine gj_sub (lc' := [(0, rv (b + 1)), (1, rv x), (2, rv (t + 1)), (3, rv o), (4, .int x465)]) [3, 4, 5, 6, 0] rfl ?_
          exact hX23 _ _ _ _ _ _ _ _ hw
        · have hw := it_t hw c464
          refine gj_aload_n C dL_law_1233 5 rfl ?_
          refine gj_iconst (v := 0) C dL_law_1234 rfl ?_
          obtain ⟨h466, hw⟩ := hw
          obtain ⟨h467, hw⟩ := hw
          refine lp_lald B h466 h467 dL_law_1235 ?_
          refine gj_iload C dL_law_1236 0 rfl ?_
          refine gj_i2l C dL_law_1238 ?_
          refine gj_lcmp C dL_law_1239 ?_
          refine gj_if_eq (tgt := 1245) C dL_law_1240 rfl (fun c468 => ?_) (fun c468 => ?_)
          · have hw := it_t hw c468
            refine gj_goto (tgt := 2203) C dL_law_1245 rfl ?_
            obtain ⟨x469, ex469⟩ : ∃ x469 : Int32, x469 = v4 + 6 := ⟨_, rfl⟩
            have hw := hw x469 ex469
            refine gj_iinc (lc' := [(4, .int x469), (6, .int z457), (5, .int z452), (0, rv (b + 1)), (1, rv x), (2, rv (t + 1)), (3, rv o)]) (w := 6) (v := x469) C dL_law_2203 6 rfl rfl ex469.symm (Nat.le_of_ble_eq_true rfl) (show lst1 _ 4 _ = _ by simp [lst1, rv_cat]) ?_
            refine gj_goto (tgt := 23) C dL_law_2206 rfl ?_
            refine gj_sub (lc' := [(0, rv (b + 1)), (1, rv x), (2, rv (t + 1)), (3, rv o), (4, .int x469)]) [3, 4, 5, 6, 0] rfl ?_
            exact hX23 _ _ _ _ _ _ _ _ hw
          · have hw := it_f hw c468
            refine gj_iconst (v := 0) C dL_law_1243 rfl ?_
            obtain ⟨h470, hw⟩ := hw
            exact lp_ret B h470 hw dL_law_1244
      · have hw := it_f hw c463
        refine gj_iconst (v := 0) C dL_law_1226 rfl ?_
        obtain ⟨h471, hw⟩ := hw
        exact lp_ret B h471 hw dL_law_1227
    have hw := it_f hw c444
    by_cases c472 : ((xs (Int32.toNatClampNeg v4)) &&& 63) = 19
    · have hw := it_t hw c472
      refine gj_tabIn (v := 19) (tgt := 1248) C dL_law_40 c472 (by decide) (by decide) (by rfl) rfl ?_
      refine gj_aload_n C dL_law_1248 1 rfl ?_
      refine gj_aload_n C dL_law_1249 0 rfl ?_
      refine gj_iload C dL_law_1250 4 rfl ?_
      refine gj_iconst (v := 1) C dL_law_1252 rfl ?_
      refine gj_iadd C dL_law_1253 ?_
      obtain ⟨h473, hw⟩ := hw
      refine lp_iald B h473 dL_law_1254 ?_
      refine gj_aload_n C dL_law_1255 3 rfl ?_
      obtain ⟨h474, hw⟩ := hw
      refine lp_enterC (fun H hT => ?_)
      refine tc_X0_173 C hW hw (lrm B (Nat.le_of_ble_eq_true rfl) (Nat.le_of_ble_eq_true rfl) h474) B.2.2.2.2.1 (gc_rest (Nat.le_of_ble_eq_true rfl)) dL_law_1256 (fun _ _ _ _ _ _ _ _ _ _ _ hf => hf.elim) (fun z479 I475 R476 K477 n478 hw => ?_)
      refine lp_leaveC B hT ?_
      refine gj_istore (lc' := [(5, .int z479), (0, rv (b + 1)), (1, rv x), (2, rv (t + 1)), (3, rv o), (4, .int v4)]) C dL_law_1259 (Nat.le_of_ble_eq_true rfl) rfl ?_
      refine gj_aload_n C dL_law_1261 3 rfl ?_
      refine gj_aload_n C dL_law_1262 1 rfl ?_
      refine gj_iload C dL_law_1263 5 rfl ?_
      refine gj_iconst (v := 1) C dL_law_1265 rfl ?_
      refine gj_iadd C dL_law_1266 ?_
      obtain ⟨h480, hw⟩ := hw
      refine lp_iald B h480 dL_law_1267 ?_
      obtain ⟨h484, hw⟩ := hw
      refine lp_enterT (fun H hC => ?_)
      refine tl_X3_sure B hw h484 (gc_rest (Nat.le_of_ble_eq_true rfl)) dL_law_1268 (fun z483 J481 l482 hw => ?_)
      refine lp_leaveT B hC ?_
      refine gj_istore (lc' := [(6, .int z483), (5, .int z479), (0, rv (b + 1)), (1, rv x), (2, rv (t + 1)), (3, rv o), (4, .int v4)]) C dL_law_1271 (Nat.le_of_ble_eq_true rfl) rfl ?_
      refine gj_aload_n C dL_law_1273 4 rfl ?_
      obtain ⟨h488, hw⟩ := hw
      refine lp_enterT (fun H hC => ?_)
      refine tl_X3_thrown B hw h488 (gc_rest (Nat.le_of_ble_eq_true rfl)) dL_law_1274 (fun z487 J485 l486 hw => ?_)
      refine lp_leaveT B hC ?_
      refine gj_iload C dL_law_1277 1 rfl ?_
      refine gj_icmp_eq (tgt := 1284) C dL_law_1279 rfl (fun c489 => ?_) (fun c489 => ?_)
      · have hw := it_t hw c489
        refine gj_iload C dL_law_1284 1 rfl ?_
        refine gj_if_ne (tgt := 1301) C dL_law_1286 rfl (fun c490 => ?_) (fun c490 => ?_)
        · have hw := it_f hw c490
          refine gj_goto (tgt := 2203) C dL_law_1301 rfl ?_
          obtain ⟨x491, ex491⟩ : ∃ x491 : Int32, x491 = v4 + 6 := ⟨_, rfl⟩
          have hw := hw x491 ex491
          refine gj_iinc (lc' := [(4, .int x491), (6, .int z483), (5, .int z479), (0, rv (b + 1)), (1, rv x), (2, rv (t + 1)), (3, rv o)]) (w := 6) (v := x491) C dL_law_2203 6 rfl rfl ex491.symm (Nat.le_of_ble_eq_true rfl) (show lst1 _ 4 _ = _ by simp [lst1, rv_cat]) ?_
          refine gj_goto (tgt := 23) C dL_law_2206 rfl ?_
          refine gj_sub (lc' := [(0, rv (b + 1)), (1, rv x), (2, rv (t + 1)), (3, rv o), (4, .int x491)]) [3, 4, 5, 6, 0] rfl ?_
          exact hX23 _ _ _ _ _ _ _ _ hw
        · have hw := it_t hw c490
          refine gj_aload_n C dL_law_1289 5 rfl ?_
          refine gj_iconst (v := 0) C dL_law_1290 rfl ?_
          obtain ⟨h492, hw⟩ := hw
          obtain ⟨h493, hw⟩ := hw
          refine lp_lald B h492 h493 dL_law_1291 ?_
          refine gj_iload C dL_law_1292 0 rfl ?_
          refine gj_i2l C dL_law_1294 ?_
          refine gj_lcmp C dL_law_1295 ?_
          refine gj_if_eq (tgt := 1301) C dL_law_1296 rfl (fun c494 => ?_) (fun c494 => ?_)
          · have hw := it_t hw c494
            refine gj_goto (tgt := 2203) C dL_law_1301 rfl ?_
            obtain ⟨x495, ex495⟩ : ∃ x495 : Int32, x495 = v4 + 6 := ⟨_, rfl⟩
            have hw := hw x495 ex495
            refine gj_iinc (lc' := [(4, .int x495), (6, .int z483), (5, .int z479), (0, rv (b + 1)), (1, rv x), (2, rv (t + 1)), (3, rv o)]) (w := 6) (v := x495) C dL_law_2203 6 rfl rfl ex495.symm (Nat.le_of_ble_eq_true rfl) (show lst1 _ 4 _ = _ by simp [lst1, rv_cat]) ?_
            refine gj_goto (tgt := 23) C dL_law_2206 rfl ?_
            refine gj_sub (lc' := [(0, rv (b + 1)), (1, rv x), (2, rv (t + 1)), (3, rv o), (4, .int x495)]) [3, 4, 5, 6, 0] rfl ?_
            exact hX23 _ _ _ _ _ _ _ _ hw
          · have hw := it_f hw c494
            refine gj_iconst (v := 0) C dL_law_1299 rfl ?_
            obtain ⟨h496, hw⟩ := hw
            exact lp_ret B h496 hw dL_law_1300
      · have hw := it_f hw c489
        refine gj_iconst (v := 0) C dL_law_1282 rfl ?_
        obtain ⟨h497, hw⟩ := hw
        exact lp_ret B h497 hw dL_law_1283
    have hw := it_f hw c472
    by_cases c498 : ((xs (Int32.toNatClampNeg v4)) &&& 63) = 20
    · have hw := it_t hw c498
      refine gj_tabIn (v := 20) (tgt := 1304) C dL_law_40 c498 (by decide) (by decide) (by rfl) rfl ?_
      refine gj_aload_n C dL_law_1304 1 rfl ?_
      refine gj_aload_n C dL_law_1305 0 rfl ?_
      refine gj_iload C dL_law_1306 4 rfl ?_
      refine gj_iconst (v := 1) C dL_law_1308 rfl ?_
      refine gj_iadd C dL_law_1309 ?_
      obtain ⟨h499, hw⟩ := hw
      refine lp_iald B h499 dL_law_1310 ?_
      refine gj_aload_n C dL_law_1311 3 rfl ?_
      obtain ⟨h500, hw⟩ := hw
      refine lp_enterC (fun H hT => ?_)
      refine tc_X0_176 C hW hw (lrm B (Nat.le_of_ble_eq_true rfl) (Nat.le_of_ble_eq_true rfl) h500) B.2.2.2.2.1 (gc_rest (Nat.le_of_ble_eq_true rfl)) dL_law_1312 (fun _ _ _ _ _ _ _ _ _ _ _ hf => hf.elim) (fun z505 I501 R502 K503 n504 hw => ?_)
      refine lp_leaveC B hT ?_
      refine gj_istore (lc' := [(5, .int z505), (0, rv (b + 1)), (1, rv x), (2, rv (t + 1)), (3, rv o), (4, .int v4)]) C dL_law_1315 (Nat.le_of_ble_eq_true rfl) rfl ?_
      refine gj_aload_n C dL_law_1317 3 rfl ?_
      refine gj_aload_n C dL_law_1318 1 rfl ?_
      refine gj_iload C dL_law_1319 5 rfl ?_
      refine gj_iconst (v := 1) C dL_law_1321 rfl ?_
      refine gj_iadd C dL_law_1322 ?_
      obtain ⟨h506, hw⟩ := hw
      refine lp_iald B h506 dL_law_1323 ?_
      obtain ⟨h510, hw⟩ := hw
      refine lp_enterT (fun H hC => ?_)
      refine tl_X3_where B hw h510 (gc_rest (Nat.le_of_ble_eq_true rfl)) dL_law_1324 (fun z509 J507 l508 hw => ?_)
      refine lp_leaveT B hC ?_
      refine gj_istore (lc' := [(6, .int z509), (5, .int z505), (0, rv (b + 1)), (1, rv x), (2, rv (t + 1)), (3, rv o), (4, .int v4)]) C dL_law_1327 (Nat.le_of_ble_eq_true rfl) rfl ?_
      refine gj_aload_n C dL_law_1329 4 rfl ?_
      obtain ⟨h514, hw⟩ := hw
      refine lp_enterT (fun H hC => ?_)
      refine tl_X3_thrown B hw h514 (gc_rest (Nat.le_of_ble_eq_true rfl)) dL_law_1330 (fun z513 J511 l512 hw => ?_)
      refine lp_leaveT B hC ?_
      refine gj_iload C dL_law_1333 1 rfl ?_
      refine gj_icmp_eq (tgt := 1340) C dL_law_1335 rfl (fun c515 => ?_) (fun c515 => ?_)
      · have hw := it_t hw c515
        refine gj_iload C dL_law_1340 1 rfl ?_
        refine gj_if_ne (tgt := 1357) C dL_law_1342 rfl (fun c516 => ?_) (fun c516 => ?_)
        · have hw := it_f hw c516
          refine gj_goto (tgt := 2203) C dL_law_1357 rfl ?_
          obtain ⟨x517, ex517⟩ : ∃ x517 : Int32, x517 = v4 + 6 := ⟨_, rfl⟩
          have hw := hw x517 ex517
          refine gj_iinc (lc' := [(4, .int x517), (6, .int z509), (5, .int z505), (0, rv (b + 1)), (1, rv x), (2, rv (t + 1)), (3, rv o)]) (w := 6) (v := x517) C dL_law_2203 6 rfl rfl ex517.symm (Nat.le_of_ble_eq_true rfl) (show lst1 _ 4 _ = _ by simp [lst1, rv_cat]) ?_
          refine gj_goto (tgt := 23) C dL_law_2206 rfl ?_
          refine gj_sub (lc' := [(0, rv (b + 1)), (1, rv x), (2, rv (t + 1)), (3, rv o), (4, .int x517)]) [3, 4, 5, 6, 0] rfl ?_
          exact hX23 _ _ _ _ _ _ _ _ hw
        · have hw := it_t hw c516
          refine gj_aload_n C dL_law_1345 5 rfl ?_
          refine gj_iconst (v := 0) C dL_law_1346 rfl ?_
          obtain ⟨h518, hw⟩ := hw
          obtain ⟨h519, hw⟩ := hw
          refine lp_lald B h518 h519 dL_law_1347 ?_
          refine gj_iload C dL_law_1348 0 rfl ?_
          refine gj_i2l C dL_law_1350 ?_
          refine gj_lcmp C dL_law_1351 ?_
          refine gj_if_eq (tgt := 1357) C dL_law_1352 rfl (fun c520 => ?_) (fun c520 => ?_)
          · have hw := it_t hw c520
            refine gj_goto (tgt := 2203) C dL_law_1357 rfl ?_
            obtain ⟨x521, ex521⟩ : ∃ x521 : Int32, x521 = v4 + 6 := ⟨_, rfl⟩
            have hw := hw x521 ex521
            refine gj_iinc (lc' := [(4, .int x521), (6, .int z509), (5, .int z505), (0, rv (b + 1)), (1, rv x), (2, rv (t + 1)), (3, rv o)]) (w := 6) (v := x521) C dL_law_2203 6 rfl rfl ex521.symm (Nat.le_of_ble_eq_true rfl) (show lst1 _ 4 _ = _ by simp [lst1, rv_cat]) ?_
            refine gj_goto (tgt := 23) C dL_law_2206 rfl ?_
            refine gj_sub (lc' := [(0, rv (b + 1)), (1, rv x), (2, rv (t + 1)), (3, rv o), (4, .int x521)]) [3, 4, 5, 6, 0] rfl ?_
            exact hX23 _ _ _ _ _ _ _ _ hw
          · have hw := it_f hw c520
            refine gj_iconst (v := 0) C dL_law_1355 rfl ?_
            obtain ⟨h522, hw⟩ := hw
            exact lp_ret B h522 hw dL_law_1356
      · have hw := it_f hw c515
        refine gj_iconst (v := 0) C dL_law_1338 rfl ?_
        obtain ⟨h523, hw⟩ := hw
        exact lp_ret B h523 hw dL_law_1339
    have hw := it_f hw c498
    by_cases c524 : ((xs (Int32.toNatClampNeg v4)) &&& 63) = 21
    · have hw := it_t hw c524
      refine gj_tabIn (v := 21) (tgt := 1360) C dL_law_40 c524 (by decide) (by decide) (by rfl) rfl ?_
      refine gj_aload_n C dL_law_1360 1 rfl ?_
      refine gj_aload_n C dL_law_1361 0 rfl ?_
      refine gj_iload C dL_law_1362 4 rfl ?_
      refine gj_iconst (v := 1) C dL_law_1364 rfl ?_
      refine gj_iadd C dL_law_1365 ?_
      obtain ⟨h525, hw⟩ := hw
      refine lp_iald B h525 dL_law_1366 ?_
      refine gj_aload_n C dL_law_1367 0 rfl ?_
      refine gj_iload C dL_law_1368 4 rfl ?_
      refine gj_iconst (v := 2) C dL_law_1370 rfl ?_
      refine gj_iadd C dL_law_1371 ?_
      obtain ⟨h526, hw⟩ := hw
      refine lp_iald B h526 dL_law_1372 ?_
      refine gj_aload_n C dL_law_1373 0 rfl ?_
      refine gj_iload C dL_law_1374 4 rfl ?_
      refine gj_iconst (v := 3) C dL_law_1376 rfl ?_
      refine gj_iadd C dL_law_1377 ?_
      obtain ⟨h527, hw⟩ := hw
      refine lp_iald B h527 dL_law_1378 ?_
      refine gj_aload_n C dL_law_1379 3 rfl ?_
      obtain ⟨h528, hw⟩ := hw
      refine lp_enterC (fun H hT => ?_)
      refine tc_X0_179 C hW hw (lrm B (Nat.le_of_ble_eq_true rfl) (Nat.le_of_ble_eq_true rfl) h528) B.2.2.2.2.1 (gc_rest (Nat.le_of_ble_eq_true rfl)) dL_law_1380 (fun _ _ _ _ _ _ _ _ _ _ _ hf => hf.elim) (fun z533 I529 R530 K531 n532 hw => ?_)
      refine lp_leaveC B hT ?_
      refine gj_istore (lc' := [(5, .int z533), (0, rv (b + 1)), (1, rv x), (2, rv (t + 1)), (3, rv o), (4, .int v4)]) C dL_law_1383 (Nat.le_of_ble_eq_true rfl) rfl ?_
      refine gj_aload_n C dL_law_1385 3 rfl ?_
      refine gj_aload_n C dL_law_1386 1 rfl ?_
      refine gj_iload C dL_law_1387 5 rfl ?_
      refine gj_iconst (v := 1) C dL_law_1389 rfl ?_
      refine gj_iadd C dL_law_1390 ?_
      obtain ⟨h534, hw⟩ := hw
      refine lp_iald B h534 dL_law_1391 ?_
      refine gj_aload_n C dL_law_1392 1 rfl ?_
      refine gj_iload C dL_law_1393 5 rfl ?_
      refine gj_iconst (v := 2) C dL_law_1395 rfl ?_
      refine gj_iadd C dL_law_1396 ?_
      obtain ⟨h535, hw⟩ := hw
      refine lp_iald B h535 dL_law_1397 ?_
      refine gj_aload_n C dL_law_1398 1 rfl ?_
      refine gj_iload C dL_law_1399 5 rfl ?_
      refine gj_iconst (v := 3) C dL_law_1401 rfl ?_
      refine gj_iadd C dL_law_1402 ?_
      obtain ⟨h536, hw⟩ := hw
      refine lp_iald B h536 dL_law_1403 ?_
      obtain ⟨h540, hw⟩ := hw
      refine lp_enterT (fun H hC => ?_)
      refine tl_X3_misled B hw h540 (gc_rest (Nat.le_of_ble_eq_true rfl)) dL_law_1404 (fun z539 J537 l538 hw => ?_)
      refine lp_leaveT B hC ?_
      refine gj_istore (lc' := [(6, .int z539), (5, .int z533), (0, rv (b + 1)), (1, rv x), (2, rv (t + 1)), (3, rv o), (4, .int v4)]) C dL_law_1407 (Nat.le_of_ble_eq_true rfl) rfl ?_
      refine gj_aload_n C dL_law_1409 4 rfl ?_
      obtain ⟨h544, hw⟩ := hw
      refine lp_enterT (fun H hC => ?_)
      refine tl_X3_thrown B hw h544 (gc_rest (Nat.le_of_ble_eq_true rfl)) dL_law_1410 (fun z543 J541 l542 hw => ?_)
      refine lp_leaveT B hC ?_
      refine gj_iload C dL_law_1413 1 rfl ?_
      refine gj_icmp_eq (tgt := 1420) C dL_law_1415 rfl (fun c545 => ?_) (fun c545 => ?_)
      · have hw := it_t hw c545
        refine gj_iload C dL_law_1420 1 rfl ?_
        refine gj_if_ne (tgt := 1437) C dL_law_1422 rfl (fun c546 => ?_) (fun c546 => ?_)
        · have hw := it_f hw c546
          refine gj_goto (tgt := 2203) C dL_law_1437 rfl ?_
          obtain ⟨x547, ex547⟩ : ∃ x547 : Int32, x547 = v4 + 6 := ⟨_, rfl⟩
          have hw := hw x547 ex547
          refine gj_iinc (lc' := [(4, .int x547), (6, .int z539), (5, .int z533), (0, rv (b + 1)), (1, rv x), (2, rv (t + 1)), (3, rv o)]) (w := 6) (v := x547) C dL_law_2203 6 rfl rfl ex547.symm (Nat.le_of_ble_eq_true rfl) (show lst1 _ 4 _ = _ by simp [lst1, rv_cat]) ?_
          refine gj_goto (tgt := 23) C dL_law_2206 rfl ?_
          refine gj_sub (lc' := [(0, rv (b + 1)), (1, rv x), (2, rv (t + 1)), (3, rv o), (4, .int x547)]) [3, 4, 5, 6, 0] rfl ?_
          exact hX23 _ _ _ _ _ _ _ _ hw
        · have hw := it_t hw c546
          refine gj_aload_n C dL_law_1425 5 rfl ?_
          refine gj_iconst (v := 0) C dL_law_1426 rfl ?_
          obtain ⟨h548, hw⟩ := hw
          obtain ⟨h549, hw⟩ := hw
          refine lp_lald B h548 h549 dL_law_1427 ?_
          refine gj_iload C dL_law_1428 0 rfl ?_
          refine gj_i2l C dL_law_1430 ?_
          refine gj_lcmp C dL_law_1431 ?_
          refine gj_if_eq (tgt := 1437) C dL_law_1432 rfl (fun c550 => ?_) (fun c550 => ?_)
          · have hw := it_t hw c550
            refine gj_goto (tgt := 2203) C dL_law_1437 rfl ?_
            obtain ⟨x551, ex551⟩ : ∃ x551 : Int32, x551 = v4 + 6 := ⟨_, rfl⟩
            have hw := hw x551 ex551
            refine gj_iinc (lc' := [(4, .int x551), (6, .int z539), (5, .int z533), (0, rv (b + 1)), (1, rv x), (2, rv (t + 1)), (3, rv o)]) (w := 6) (v := x551) C dL_law_2203 6 rfl rfl ex551.symm (Nat.le_of_ble_eq_true rfl) (show lst1 _ 4 _ = _ by simp [lst1, rv_cat]) ?_
            refine gj_goto (tgt := 23) C dL_law_2206 rfl ?_
            refine gj_sub (lc' := [(0, rv (b + 1)), (1, rv x), (2, rv (t + 1)), (3, rv o), (4, .int x551)]) [3, 4, 5, 6, 0] rfl ?_
            exact hX23 _ _ _ _ _ _ _ _ hw
          · have hw := it_f hw c550
            refine gj_iconst (v := 0) C dL_law_1435 rfl ?_
            obtain ⟨h552, hw⟩ := hw
            exact lp_ret B h552 hw dL_law_1436
      · have hw := it_f hw c545
        refine gj_iconst (v := 0) C dL_law_1418 rfl ?_
        obtain ⟨h553, hw⟩ := hw
        exact lp_ret B h553 hw dL_law_1419
    have hw := it_f hw c524
    by_cases c554 : ((xs (Int32.toNatClampNeg v4)) &&& 63) = 22
    · have hw := it_t hw c554
      refine gj_tabIn (v := 22) (tgt := 1440) C dL_law_40 c554 (by decide) (by decide) (by rfl) rfl ?_
      refine gj_aload_n C dL_law_1440 1 rfl ?_
      refine gj_aload_n C dL_law_1441 0 rfl ?_
      refine gj_iload C dL_law_1442 4 rfl ?_
      refine gj_iconst (v := 1) C dL_law_1444 rfl ?_
      refine gj_iadd C dL_law_1445 ?_
      obtain ⟨h555, hw⟩ := hw
      refine lp_iald B h555 dL_law_1446 ?_
      refine gj_aload_n C dL_law_1447 0 rfl ?_
      refine gj_iload C dL_law_1448 4 rfl ?_
      refine gj_iconst (v := 2) C dL_law_1450 rfl ?_
      refine gj_iadd C dL_law_1451 ?_
      obtain ⟨h556, hw⟩ := hw
      refine lp_iald B h556 dL_law_1452 ?_
      refine gj_aload_n C dL_law_1453 3 rfl ?_
      obtain ⟨h557, hw⟩ := hw
      refine lp_enterC (fun H hT => ?_)
      refine tc_X0_182 C hW hw (lrm B (Nat.le_of_ble_eq_true rfl) (Nat.le_of_ble_eq_true rfl) h557) B.2.2.2.2.1 (gc_rest (Nat.le_of_ble_eq_true rfl)) dL_law_1454 (fun _ _ _ _ _ _ _ _ _ _ _ hf => hf.elim) (fun z562 I558 R559 K560 n561 hw => ?_)
      refine lp_leaveC B hT ?_
      refine gj_istore (lc' := [(5, .int z562), (0, rv (b + 1)), (1, rv x), (2, rv (t + 1)), (3, rv o), (4, .int v4)]) C dL_law_1457 (Nat.le_of_ble_eq_true rfl) rfl ?_
      refine gj_aload_n C dL_law_1459 3 rfl ?_
      refine gj_aload_n C dL_law_1460 1 rfl ?_
      refine gj_iload C dL_law_1461 5 rfl ?_
      refine gj_iconst (v := 1) C dL_law_1463 rfl ?_
      refine gj_iadd C dL_law_1464 ?_
      obtain ⟨h563, hw⟩ := hw
      refine lp_iald B h563 dL_law_1465 ?_
      refine gj_aload_n C dL_law_1466 1 rfl ?_
      refine gj_iload C dL_law_1467 5 rfl ?_
      refine gj_iconst (v := 2) C dL_law_1469 rfl ?_
      refine gj_iadd C dL_law_1470 ?_
      obtain ⟨h564, hw⟩ := hw
      refine lp_iald B h564 dL_law_1471 ?_
      obtain ⟨h568, hw⟩ := hw
      refine lp_enterT (fun H hC => ?_)
      refine tl_X3_chance B hw h568 (gc_rest (Nat.le_of_ble_eq_true rfl)) dL_law_1472 (fun z567 J565 l566 hw => ?_)
      refine lp_leaveT B hC ?_
      refine gj_istore (lc' := [(6, .int z567), (5, .int z562), (0, rv (b + 1)), (1, rv x), (2, rv (t + 1)), (3, rv o), (4, .int v4)]) C dL_law_1475 (Nat.le_of_ble_eq_true rfl) rfl ?_
      refine gj_aload_n C dL_law_1477 4 rfl ?_
      obtain ⟨h572, hw⟩ := hw
      refine lp_enterT (fun H hC => ?_)
      refine tl_X3_thrown B hw h572 (gc_rest (Nat.le_of_ble_eq_true rfl)) dL_law_1478 (fun z571 J569 l570 hw => ?_)
      refine lp_leaveT B hC ?_
      refine gj_iload C dL_law_1481 1 rfl ?_
      refine gj_icmp_eq (tgt := 1488) C dL_law_1483 rfl (fun c573 => ?_) (fun c573 => ?_)
      · have hw := it_t hw c573
        refine gj_iload C dL_law_1488 1 rfl ?_
        refine gj_if_ne (tgt := 1505) C dL_law_1490 rfl (fun c574 => ?_) (fun c574 => ?_)
        · have hw := it_f hw c574
          refine gj_goto (tgt := 2203) C dL_law_1505 rfl ?_
          obtain ⟨x575, ex575⟩ : ∃ x575 : Int32, x575 = v4 + 6 := ⟨_, rfl⟩
          have hw := hw x575 ex575
          refine gj_iinc (lc' := [(4, .int x575), (6, .int z567), (5, .int z562), (0, rv (b + 1)), (1, rv x), (2, rv (t + 1)), (3, rv o)]) (w := 6) (v := x575) C dL_law_2203 6 rfl rfl ex575.symm (Nat.le_of_ble_eq_true rfl) (show lst1 _ 4 _ = _ by simp [lst1, rv_cat]) ?_
          refine gj_goto (tgt := 23) C dL_law_2206 rfl ?_
          refine gj_sub (lc' := [(0, rv (b + 1)), (1, rv x), (2, rv (t + 1)), (3, rv o), (4, .int x575)]) [3, 4, 5, 6, 0] rfl ?_
          exact hX23 _ _ _ _ _ _ _ _ hw
        · have hw := it_t hw c574
          refine gj_aload_n C dL_law_1493 5 rfl ?_
          refine gj_iconst (v := 0) C dL_law_1494 rfl ?_
          obtain ⟨h576, hw⟩ := hw
          obtain ⟨h577, hw⟩ := hw
          refine lp_lald B h576 h577 dL_law_1495 ?_
          refine gj_iload C dL_law_1496 0 rfl ?_
          refine gj_i2l C dL_law_1498 ?_
          refine gj_lcmp C dL_law_1499 ?_
          refine gj_if_eq (tgt := 1505) C dL_law_1500 rfl (fun c578 => ?_) (fun c578 => ?_)
          · have hw := it_t hw c578
            refine gj_goto (tgt := 2203) C dL_law_1505 rfl ?_
            obtain ⟨x579, ex579⟩ : ∃ x579 : Int32, x579 = v4 + 6 := ⟨_, rfl⟩
            have hw := hw x579 ex579
            refine gj_iinc (lc' := [(4, .int x579), (6, .int z567), (5, .int z562), (0, rv (b + 1)), (1, rv x), (2, rv (t + 1)), (3, rv o)]) (w := 6) (v := x579) C dL_law_2203 6 rfl rfl ex579.symm (Nat.le_of_ble_eq_true rfl) (show lst1 _ 4 _ = _ by simp [lst1, rv_cat]) ?_
            refine gj_goto (tgt := 23) C dL_law_2206 rfl ?_
            refine gj_sub (lc' := [(0, rv (b + 1)), (1, rv x), (2, rv (t + 1)), (3, rv o), (4, .int x579)]) [3, 4, 5, 6, 0] rfl ?_
            exact hX23 _ _ _ _ _ _ _ _ hw
          · have hw := it_f hw c578
            refine gj_iconst (v := 0) C dL_law_1503 rfl ?_
            obtain ⟨h580, hw⟩ := hw
            exact lp_ret B h580 hw dL_law_1504
      · have hw := it_f hw c573
        refine gj_iconst (v := 0) C dL_law_1486 rfl ?_
        obtain ⟨h581, hw⟩ := hw
        exact lp_ret B h581 hw dL_law_1487
    have hw := it_f hw c554
    by_cases c582 : ((xs (Int32.toNatClampNeg v4)) &&& 63) = 23
    · have hw := it_t hw c582
      refine gj_tabIn (v := 23) (tgt := 1508) C dL_law_40 c582 (by decide) (by decide) (by rfl) rfl ?_
      refine gj_aload_n C dL_law_1508 1 rfl ?_
      refine gj_aload_n C dL_law_1509 0 rfl ?_
      refine gj_iload C dL_law_1510 4 rfl ?_
      refine gj_iconst (v := 1) C dL_law_1512 rfl ?_
      refine gj_iadd C dL_law_1513 ?_
      obtain ⟨h583, hw⟩ := hw
      refine lp_iald B h583 dL_law_1514 ?_
      refine gj_aload_n C dL_law_1515 0 rfl ?_
      refine gj_iload C dL_law_1516 4 rfl ?_
      refine gj_iconst (v := 2) C dL_law_1518 rfl ?_
      refine gj_iadd C dL_law_1519 ?_
      obtain ⟨h584, hw⟩ := hw
      refine lp_iald B h584 dL_law_1520 ?_
      refine gj_aload_n C dL_law_1521 0 rfl ?_
      refine gj_iload C dL_law_1522 4 rfl ?_
      refine gj_iconst (v := 3) C dL_law_1524 rfl ?_
      refine gj_iadd C dL_law_1525 ?_
      obtain ⟨h585, hw⟩ := hw
      refine lp_iald B h585 dL_law_1526 ?_
      refine gj_aload_n C dL_law_1527 3 rfl ?_
      obtain ⟨h586, hw⟩ := hw
      refine lp_enterC (fun H hT => ?_)
      refine tc_X0_185 C hW hw (lrm B (Nat.le_of_ble_eq_true rfl) (Nat.le_of_ble_eq_true rfl) h586) B.2.2.2.2.1 (gc_rest (Nat.le_of_ble_eq_true rfl)) dL_law_1528 (fun _ _ _ _ _ _ _ _ _ _ _ hf => hf.elim) (fun z591 I587 R588 K589 n590 hw => ?_)
      refine lp_leaveC B hT ?_
      refine gj_istore (lc' := [(5, .int z591), (0, rv (b + 1)), (1, rv x), (2, rv (t + 1)), (3, rv o), (4, .int v4)]) C dL_law_1531 (Nat.le_of_ble_eq_true rfl) rfl ?_
      refine gj_aload_n C dL_law_1533 3 rfl ?_
      refine gj_aload_n C dL_law_1534 1 rfl ?_
      refine gj_iload C dL_law_1535 5 rfl ?_
      refine gj_iconst (v := 1) C dL_law_1537 rfl ?_
      refine gj_iadd C dL_law_1538 ?_
      obtain ⟨h592, hw⟩ := hw
      refine lp_iald B h592 dL_law_1539 ?_
      refine gj_aload_n C dL_law_1540 1 rfl ?_
      refine gj_iload C dL_law_1541 5 rfl ?_
      refine gj_iconst (v := 2) C dL_law_1543 rfl ?_
      refine gj_iadd C dL_law_1544 ?_
      obtain ⟨h593, hw⟩ := hw
      refine lp_iald B h593 dL_law_1545 ?_
      refine gj_aload_n C dL_law_1546 1 rfl ?_
      refine gj_iload C dL_law_1547 5 rfl ?_
      refine gj_iconst (v := 3) C dL_law_1549 rfl ?_
      refine gj_iadd C dL_law_1550 ?_
      obtain ⟨h594, hw⟩ := hw
      refine lp_iald B h594 dL_law_1551 ?_
      obtain ⟨h598, hw⟩ := hw
      refine lp_enterT (fun H hC => ?_)
      refine tl_X3_round B hw h598 (gc_rest (Nat.le_of_ble_eq_true rfl)) dL_law_1552 (fun z597 J595 l596 hw => ?_)
      refine lp_leaveT B hC ?_
      refine gj_istore (lc' := [(6, .int z597), (5, .int z591), (0, rv (b + 1)), (1, rv x), (2, rv (t + 1)), (3, rv o), (4, .int v4)]) C dL_law_1555 (Nat.le_of_ble_eq_true rfl) rfl ?_
      refine gj_aload_n C dL_law_1557 4 rfl ?_
      obtain ⟨h602, hw⟩ := hw
      refine lp_enterT (fun H hC => ?_)
      refine tl_X3_thrown B hw h602 (gc_rest (Nat.le_of_ble_eq_true rfl)) dL_law_1558 (fun z601 J599 l600 hw => ?_)
      refine lp_leaveT B hC ?_
      refine gj_iload C dL_law_1561 1 rfl ?_
      refine gj_icmp_eq (tgt := 1568) C dL_law_1563 rfl (fun c603 => ?_) (fun c603 => ?_)
      · have hw := it_t hw c603
        refine gj_iload C dL_law_1568 1 rfl ?_
        refine gj_if_ne (tgt := 1585) C dL_law_1570 rfl (fun c604 => ?_) (fun c604 => ?_)
        · have hw := it_f hw c604
          refine gj_goto (tgt := 2203) C dL_law_1585 rfl ?_
          obtain ⟨x605, ex605⟩ : ∃ x605 : Int32, x605 = v4 + 6 := ⟨_, rfl⟩
          have hw := hw x605 ex605
          refine gj_iinc (lc' := [(4, .int x605), (6, .int z597), (5, .int z591), (0, rv (b + 1)), (1, rv x), (2, rv (t + 1)), (3, rv o)]) (w := 6) (v := x605) C dL_law_2203 6 rfl rfl ex605.symm (Nat.le_of_ble_eq_true rfl) (show lst1 _ 4 _ = _ by simp [lst1, rv_cat]) ?_
          refine gj_goto (tgt := 23) C dL_law_2206 rfl ?_
          refine gj_sub (lc' := [(0, rv (b + 1)), (1, rv x), (2, rv (t + 1)), (3, rv o), (4, .int x605)]) [3, 4, 5, 6, 0] rfl ?_
          exact hX23 _ _ _ _ _ _ _ _ hw
        · have hw := it_t hw c604
          refine gj_aload_n C dL_law_1573 5 rfl ?_
          refine gj_iconst (v := 0) C dL_law_1574 rfl ?_
          obtain ⟨h606, hw⟩ := hw
          obtain ⟨h607, hw⟩ := hw
          refine lp_lald B h606 h607 dL_law_1575 ?_
          refine gj_iload C dL_law_1576 0 rfl ?_
          refine gj_i2l C dL_law_1578 ?_
          refine gj_lcmp C dL_law_1579 ?_
          refine gj_if_eq (tgt := 1585) C dL_law_1580 rfl (fun c608 => ?_) (fun c608 => ?_)
          · have hw := it_t hw c608
            refine gj_goto (tgt := 2203) C dL_law_1585 rfl ?_
            obtain ⟨x609, ex609⟩ : ∃ x609 : Int32, x609 = v4 + 6 := ⟨_, rfl⟩
            have hw := hw x609 ex609
            refine gj_iinc (lc' := [(4, .int x609), (6, .int z597), (5, .int z591), (0, rv (b + 1)), (1, rv x), (2, rv (t + 1)), (3, rv o)]) (w := 6) (v := x609) C dL_law_2203 6 rfl rfl ex609.symm (Nat.le_of_ble_eq_true rfl) (show lst1 _ 4 _ = _ by simp [lst1, rv_cat]) ?_
            refine gj_goto (tgt := 23) C dL_law_2206 rfl ?_
            refine gj_sub (lc' := [(0, rv (b + 1)), (1, rv x), (2, rv (t + 1)), (3, rv o), (4, .int x609)]) [3, 4, 5, 6, 0] rfl ?_
            exact hX23 _ _ _ _ _ _ _ _ hw
          · have hw := it_f hw c608
            refine gj_iconst (v := 0) C dL_law_1583 rfl ?_
            obtain ⟨h610, hw⟩ := hw
            exact lp_ret B h610 hw dL_law_1584
      · have hw := it_f hw c603
        refine gj_iconst (v := 0) C dL_law_1566 rfl ?_
        obtain ⟨h611, hw⟩ := hw
        exact lp_ret B h611 hw dL_law_1567
    have hw := it_f hw c582
    by_cases c612 : ((xs (Int32.toNatClampNeg v4)) &&& 63) = 24
    · have hw := it_t hw c612
      refine gj_tabIn (v := 24) (tgt := 1588) C dL_law_40 c612 (by decide) (by decide) (by rfl) rfl ?_
      refine gj_aload_n C dL_law_1588 1 rfl ?_
      refine gj_aload_n C dL_law_1589 0 rfl ?_
      refine gj_iload C dL_law_1590 4 rfl ?_
      refine gj_iconst (v := 1) C dL_law_1592 rfl ?_
      refine gj_iadd C dL_law_1593 ?_
      obtain ⟨h613, hw⟩ := hw
      refine lp_iald B h613 dL_law_1594 ?_
      refine gj_aload_n C dL_law_1595 0 rfl ?_
      refine gj_iload C dL_law_1596 4 rfl ?_
      refine gj_iconst (v := 2) C dL_law_1598 rfl ?_
      refine gj_iadd C dL_law_1599 ?_
      obtain ⟨h614, hw⟩ := hw
      refine lp_iald B h614 dL_law_1600 ?_
      refine gj_aload_n C dL_law_1601 3 rfl ?_
      obtain ⟨h615, hw⟩ := hw
      refine lp_enterC (fun H hT => ?_)
      refine tc_X0_188 C hW hw (lrm B (Nat.le_of_ble_eq_true rfl) (Nat.le_of_ble_eq_true rfl) h615) B.2.2.2.2.1 (gc_rest (Nat.le_of_ble_eq_true rfl)) dL_law_1602 (fun _ _ _ _ _ _ _ _ _ _ _ hf => hf.elim) (fun z620 I616 R617 K618 n619 hw => ?_)
      refine lp_leaveC B hT ?_
      refine gj_istore (lc' := [(5, .int z620), (0, rv (b + 1)), (1, rv x), (2, rv (t + 1)), (3, rv o), (4, .int v4)]) C dL_law_1605 (Nat.le_of_ble_eq_true rfl) rfl ?_
      refine gj_aload_n C dL_law_1607 3 rfl ?_
      refine gj_aload_n C dL_law_1608 1 rfl ?_
      refine gj_iload C dL_law_1609 5 rfl ?_
      refine gj_iconst (v := 1) C dL_law_1611 rfl ?_
      refine gj_iadd C dL_law_1612 ?_
      obtain ⟨h621, hw⟩ := hw
      refine lp_iald B h621 dL_law_1613 ?_
      refine gj_aload_n C dL_law_1614 1 rfl ?_
      refine gj_iload C dL_law_1615 5 rfl ?_
      refine gj_iconst (v := 2) C dL_law_1617 rfl ?_
      refine gj_iadd C dL_law_1618 ?_
      obtain ⟨h622, hw⟩ := hw
      refine lp_iald B h622 dL_law_1619 ?_
      obtain ⟨h626, hw⟩ := hw
      refine lp_enterT (fun H hC => ?_)
      refine tl_X3_path B hw h626 (gc_rest (Nat.le_of_ble_eq_true rfl)) dL_law_1620 (fun z625 J623 l624 hw => ?_)
      refine lp_leaveT B hC ?_
      refine gj_istore (lc' := [(6, .int z625), (5, .int z620), (0, rv (b + 1)), (1, rv x), (2, rv (t + 1)), (3, rv o), (4, .int v4)]) C dL_law_1623 (Nat.le_of_ble_eq_true rfl) rfl ?_
      refine gj_aload_n C dL_law_1625 4 rfl ?_
      obtain ⟨h630, hw⟩ := hw
      refine lp_enterT (fun H hC => ?_)
      refine tl_X3_thrown B hw h630 (gc_rest (Nat.le_of_ble_eq_true rfl)) dL_law_1626 (fun z629 J627 l628 hw => ?_)
      refine lp_leaveT B hC ?_
      refine gj_iload C dL_law_1629 1 rfl ?_
      refine gj_icmp_eq (tgt := 1636) C dL_law_1631 rfl (fun c631 => ?_) (fun c631 => ?_)
      · have hw := it_t hw c631
        refine gj_iload C dL_law_1636 1 rfl ?_
        refine gj_if_ne (tgt := 1653) C dL_law_1638 rfl (fun c632 => ?_) (fun c632 => ?_)
        · have hw := it_f hw c632
          refine gj_goto (tgt := 2203) C dL_law_1653 rfl ?_
          obtain ⟨x633, ex633⟩ : ∃ x633 : Int32, x633 = v4 + 6 := ⟨_, rfl⟩
          have hw := hw x633 ex633
          refine gj_iinc (lc' := [(4, .int x633), (6, .int z625), (5, .int z620), (0, rv (b + 1)), (1, rv x), (2, rv (t + 1)), (3, rv o)]) (w := 6) (v := x633) C dL_law_2203 6 rfl rfl ex633.symm (Nat.le_of_ble_eq_true rfl) (show lst1 _ 4 _ = _ by simp [lst1, rv_cat]) ?_
          refine gj_goto (tgt := 23) C dL_law_2206 rfl ?_
          refine gj_sub (lc' := [(0, rv (b + 1)), (1, rv x), (2, rv (t + 1)), (3, rv o), (4, .int x633)]) [3, 4, 5, 6, 0] rfl ?_
          exact hX23 _ _ _ _ _ _ _ _ hw
        · have hw := it_t hw c632
          refine gj_aload_n C dL_law_1641 5 rfl ?_
          refine gj_iconst (v := 0) C dL_law_1642 rfl ?_
          obtain ⟨h634, hw⟩ := hw
          obtain ⟨h635, hw⟩ := hw
          refine lp_lald B h634 h635 dL_law_1643 ?_
          refine gj_iload C dL_law_1644 0 rfl ?_
          refine gj_i2l C dL_law_1646 ?_
          refine gj_lcmp C dL_law_1647 ?_
          refine gj_if_eq (tgt := 1653) C dL_law_1648 rfl (fun c636 => ?_) (fun c636 => ?_)
          · have hw := it_t hw c636
            refine gj_goto (tgt := 2203) C dL_law_1653 rfl ?_
            obtain ⟨x637, ex637⟩ : ∃ x637 : Int32, x637 = v4 + 6 := ⟨_, rfl⟩
            have hw := hw x637 ex637
            refine gj_iinc (lc' := [(4, .int x637), (6, .int z625), (5, .int z620), (0, rv (b + 1)), (1, rv x), (2, rv (t + 1)), (3, rv o)]) (w := 6) (v := x637) C dL_law_2203 6 rfl rfl ex637.symm (Nat.le_of_ble_eq_true rfl) (show lst1 _ 4 _ = _ by simp [lst1, rv_cat]) ?_
            refine gj_goto (tgt := 23) C dL_law_2206 rfl ?_
            refine gj_sub (lc' := [(0, rv (b + 1)), (1, rv x), (2, rv (t + 1)), (3, rv o), (4, .int x637)]) [3, 4, 5, 6, 0] rfl ?_
            exact hX23 _ _ _ _ _ _ _ _ hw
          · have hw := it_f hw c636
            refine gj_iconst (v := 0) C dL_law_1651 rfl ?_
            obtain ⟨h638, hw⟩ := hw
            exact lp_ret B h638 hw dL_law_1652
      · have hw := it_f hw c631
        refine gj_iconst (v := 0) C dL_law_1634 rfl ?_
        obtain ⟨h639, hw⟩ := hw
        exact lp_ret B h639 hw dL_law_1635
    have hw := it_f hw c612
    by_cases c640 : ((xs (Int32.toNatClampNeg v4)) &&& 63) = 25
    · have hw := it_t hw c640
      refine gj_tabIn (v := 25) (tgt := 1656) C dL_law_40 c640 (by decide) (by decide) (by rfl) rfl ?_
      refine gj_aload_n C dL_law_1656 1 rfl ?_
      refine gj_aload_n C dL_law_1657 0 rfl ?_
      refine gj_iload C dL_law_1658 4 rfl ?_
      refine gj_iconst (v := 1) C dL_law_1660 rfl ?_
      refine gj_iadd C dL_law_1661 ?_
      obtain ⟨h641, hw⟩ := hw
      refine lp_iald B h641 dL_law_1662 ?_
      refine gj_aload_n C dL_law_1663 0 rfl ?_
      refine gj_iload C dL_law_1664 4 rfl ?_
      refine gj_iconst (v := 2) C dL_law_1666 rfl ?_
      refine gj_iadd C dL_law_1667 ?_
      obtain ⟨h642, hw⟩ := hw
      refine lp_iald B h642 dL_law_1668 ?_
      refine gj_aload_n C dL_law_1669 0 rfl ?_
      refine gj_iload C dL_law_1670 4 rfl ?_
      refine gj_iconst (v := 3) C dL_law_1672 rfl ?_
      refine gj_iadd C dL_law_1673 ?_
      obtain ⟨h643, hw⟩ := hw
      refine lp_iald B h643 dL_law_1674 ?_
      refine gj_aload_n C dL_law_1675 3 rfl ?_
      obtain ⟨h644, hw⟩ := hw
      refine lp_enterC (fun H hT => ?_)
      refine tc_X0_191 C hW hw (lrm B (Nat.le_of_ble_eq_true rfl) (Nat.le_of_ble_eq_true rfl) h644) B.2.2.2.2.1 (gc_rest (Nat.le_of_ble_eq_true rfl)) dL_law_1676 (fun _ _ _ _ _ _ _ _ _ _ _ hf => hf.elim) (fun z649 I645 R646 K647 n648 hw => ?_)
      refine lp_leaveC B hT ?_
      refine gj_istore (lc' := [(5, .int z649), (0, rv (b + 1)), (1, rv x), (2, rv (t + 1)), (3, rv o), (4, .int v4)]) C dL_law_1679 (Nat.le_of_ble_eq_true rfl) rfl ?_
      refine gj_aload_n C dL_law_1681 3 rfl ?_
      refine gj_aload_n C dL_law_1682 1 rfl ?_
      refine gj_iload C dL_law_1683 5 rfl ?_
      refine gj_iconst (v := 1) C dL_law_1685 rfl ?_
      refine gj_iadd C dL_law_1686 ?_
      obtain ⟨h650, hw⟩ := hw
      refine lp_iald B h650 dL_law_1687 ?_
      refine gj_aload_n C dL_law_1688 1 rfl ?_
      refine gj_iload C dL_law_1689 5 rfl ?_
      refine gj_iconst (v := 2) C dL_law_1691 rfl ?_
      refine gj_iadd C dL_law_1692 ?_
      obtain ⟨h651, hw⟩ := hw
      refine lp_iald B h651 dL_law_1693 ?_
      refine gj_aload_n C dL_law_1694 1 rfl ?_
      refine gj_iload C dL_law_1695 5 rfl ?_
      refine gj_iconst (v := 3) C dL_law_1697 rfl ?_
      refine gj_iadd C dL_law_1698 ?_
      obtain ⟨h652, hw⟩ := hw
      refine lp_iald B h652 dL_law_1699 ?_
      obtain ⟨h656, hw⟩ := hw
      refine lp_enterT (fun H hC => ?_)
      refine tl_X3_rests B hw h656 (gc_rest (Nat.le_of_ble_eq_true rfl)) dL_law_1700 (fun z655 J653 l654 hw => ?_)
      refine lp_leaveT B hC ?_
      refine gj_istore (lc' := [(6, .int z655), (5, .int z649), (0, rv (b + 1)), (1, rv x), (2, rv (t + 1)), (3, rv o), (4, .int v4)]) C dL_law_1703 (Nat.le_of_ble_eq_true rfl) rfl ?_
      refine gj_aload_n C dL_law_1705 4 rfl ?_
      obtain ⟨h660, hw⟩ := hw
      refine lp_enterT (fun H hC => ?_)
      refine tl_X3_thrown B hw h660 (gc_rest (Nat.le_of_ble_eq_true rfl)) dL_law_1706 (fun z659 J657 l658 hw => ?_)
      refine lp_leaveT B hC ?_
      refine gj_iload C dL_law_1709 1 rfl ?_
      refine gj_icmp_eq (tgt := 1716) C dL_law_1711 rfl (fun c661 => ?_) (fun c661 => ?_)
      · have hw := it_t hw c661
        refine gj_iload C dL_law_1716 1 rfl ?_
        refine gj_if_ne (tgt := 1733) C dL_law_1718 rfl (fun c662 => ?_) (fun c662 => ?_)
        · have hw := it_f hw c662
          refine gj_goto (tgt := 2203) C dL_law_1733 rfl ?_
          obtain ⟨x663, ex663⟩ : ∃ x663 : Int32, x663 = v4 + 6 := ⟨_, rfl⟩
          have hw := hw x663 ex663
          refine gj_iinc (lc' := [(4, .int x663), (6, .int z655), (5, .int z649), (0, rv (b + 1)), (1, rv x), (2, rv (t + 1)), (3, rv o)]) (w := 6) (v := x663) C dL_law_2203 6 rfl rfl ex663.symm (Nat.le_of_ble_eq_true rfl) (show lst1 _ 4 _ = _ by simp [lst1, rv_cat]) ?_
          refine gj_goto (tgt := 23) C dL_law_2206 rfl ?_
          refine gj_sub (lc' := [(0, rv (b + 1)), (1, rv x), (2, rv (t + 1)), (3, rv o), (4, .int x663)]) [3, 4, 5, 6, 0] rfl ?_
          exact hX23 _ _ _ _ _ _ _ _ hw
        · have hw := it_t hw c662
          refine gj_aload_n C dL_law_1721 5 rfl ?_
          refine gj_iconst (v := 0) C dL_law_1722 rfl ?_
          obtain ⟨h664, hw⟩ := hw
          obtain ⟨h665, hw⟩ := hw
          refine lp_lald B h664 h665 dL_law_1723 ?_
          refine gj_iload C dL_law_1724 0 rfl ?_
          refine gj_i2l C dL_law_1726 ?_
          refine gj_lcmp C dL_law_1727 ?_
          refine gj_if_eq (tgt := 1733) C dL_law_1728 rfl (fun c666 => ?_) (fun c666 => ?_)
          · have hw := it_t hw c666
            refine gj_goto (tgt := 2203) C dL_law_1733 rfl ?_
            obtain ⟨x667, ex667⟩ : ∃ x667 : Int32, x667 = v4 + 6 := ⟨_, rfl⟩
            have hw := hw x667 ex667
            refine gj_iinc (lc' := [(4, .int x667), (6, .int z655), (5, .int z649), (0, rv (b + 1)), (1, rv x), (2, rv (t + 1)), (3, rv o)]) (w := 6) (v := x667) C dL_law_2203 6 rfl rfl ex667.symm (Nat.le_of_ble_eq_true rfl) (show lst1 _ 4 _ = _ by simp [lst1, rv_cat]) ?_
            refine gj_goto (tgt := 23) C dL_law_2206 rfl ?_
            refine gj_sub (lc' := [(0, rv (b + 1)), (1, rv x), (2, rv (t + 1)), (3, rv o), (4, .int x667)]) [3, 4, 5, 6, 0] rfl ?_
            exact hX23 _ _ _ _ _ _ _ _ hw
          · have hw := it_f hw c666
            refine gj_iconst (v := 0) C dL_law_1731 rfl ?_
            obtain ⟨h668, hw⟩ := hw
            exact lp_ret B h668 hw dL_law_1732
      · have hw := it_f hw c661
        refine gj_iconst (v := 0) C dL_law_1714 rfl ?_
        obtain ⟨h669, hw⟩ := hw
        exact lp_ret B h669 hw dL_law_1715
    have hw := it_f hw c640
    by_cases c670 : ((xs (Int32.toNatClampNeg v4)) &&& 63) = 26
    · have hw := it_t hw c670
      refine gj_tabIn (v := 26) (tgt := 1736) C dL_law_40 c670 (by decide) (by decide) (by rfl) rfl ?_
      refine gj_aload_n C dL_law_1736 1 rfl ?_
      refine gj_aload_n C dL_law_1737 0 rfl ?_
      refine gj_iload C dL_law_1738 4 rfl ?_
      refine gj_iconst (v := 1) C dL_law_1740 rfl ?_
      refine gj_iadd C dL_law_1741 ?_
      obtain ⟨h671, hw⟩ := hw
      refine lp_iald B h671 dL_law_1742 ?_
      refine gj_aload_n C dL_law_1743 0 rfl ?_
      refine gj_iload C dL_law_1744 4 rfl ?_
      refine gj_iconst (v := 2) C dL_law_1746 rfl ?_
      refine gj_iadd C dL_law_1747 ?_
      obtain ⟨h672, hw⟩ := hw
      refine lp_iald B h672 dL_law_1748 ?_
      refine gj_aload_n C dL_law_1749 3 rfl ?_
      obtain ⟨h673, hw⟩ := hw
      refine lp_enterC (fun H hT => ?_)
      refine tc_X0_194 C hW hw (lrm B (Nat.le_of_ble_eq_true rfl) (Nat.le_of_ble_eq_true rfl) h673) B.2.2.2.2.1 (gc_rest (Nat.le_of_ble_eq_true rfl)) dL_law_1750 (fun _ _ _ _ _ _ _ _ _ _ _ hf => hf.elim) (fun z678 I674 R675 K676 n677 hw => ?_)
      refine lp_leaveC B hT ?_
      refine gj_istore (lc' := [(5, .int z678), (0, rv (b + 1)), (1, rv x), (2, rv (t + 1)), (3, rv o), (4, .int v4)]) C dL_law_1753 (Nat.le_of_ble_eq_true rfl) rfl ?_
      refine gj_aload_n C dL_law_1755 3 rfl ?_
      refine gj_aload_n C dL_law_1756 1 rfl ?_
      refine gj_iload C dL_law_1757 5 rfl ?_
      refine gj_iconst (v := 1) C dL_law_1759 rfl ?_
      refine gj_iadd C dL_law_1760 ?_
      obtain ⟨h679, hw⟩ := hw
      refine lp_iald B h679 dL_law_1761 ?_
      refine gj_aload_n C dL_law_1762 1 rfl ?_
      refine gj_iload C dL_law_1763 5 rfl ?_
      refine gj_iconst (v := 2) C dL_law_1765 rfl ?_
      refine gj_iadd C dL_law_1766 ?_
      obtain ⟨h680, hw⟩ := hw
      refine lp_iald B h680 dL_law_1767 ?_
      obtain ⟨h684, hw⟩ := hw
      refine lp_enterT (fun H hC => ?_)
      refine tl_X3_fewest B hw h684 (gc_rest (Nat.le_of_ble_eq_true rfl)) dL_law_1768 (fun z683 J681 l682 hw => ?_)
      refine lp_leaveT B hC ?_
      refine gj_istore (lc' := [(6, .int z683), (5, .int z678), (0, rv (b + 1)), (1, rv x), (2, rv (t + 1)), (3, rv o), (4, .int v4)]) C dL_law_1771 (Nat.le_of_ble_eq_true rfl) rfl ?_
      refine gj_aload_n C dL_law_1773 4 rfl ?_
      obtain ⟨h688, hw⟩ := hw
      refine lp_enterT (fun H hC => ?_)
      refine tl_X3_thrown B hw h688 (gc_rest (Nat.le_of_ble_eq_true rfl)) dL_law_1774 (fun z687 J685 l686 hw => ?_)
      refine lp_leaveT B hC ?_
      refine gj_iload C dL_law_1777 1 rfl ?_
      refine gj_icmp_eq (tgt := 1784) C dL_law_1779 rfl (fun c689 => ?_) (fun c689 => ?_)
      · have hw := it_t hw c689
        refine gj_iload C dL_law_1784 1 rfl ?_
        refine gj_if_ne (tgt := 1801) C dL_law_1786 rfl (fun c690 => ?_) (fun c690 => ?_)
        · have hw := it_f hw c690
          refine gj_goto (tgt := 2203) C dL_law_1801 rfl ?_
          obtain ⟨x691, ex691⟩ : ∃ x691 : Int32, x691 = v4 + 6 := ⟨_, rfl⟩
          have hw := hw x691 ex691
          refine gj_iinc (lc' := [(4, .int x691), (6, .int z683), (5, .int z678), (0, rv (b + 1)), (1, rv x), (2, rv (t + 1)), (3, rv o)]) (w := 6) (v := x691) C dL_law_2203 6 rfl rfl ex691.symm (Nat.le_of_ble_eq_true rfl) (show lst1 _ 4 _ = _ by simp [lst1, rv_cat]) ?_
          refine gj_goto (tgt := 23) C dL_law_2206 rfl ?_
          refine gj_sub (lc' := [(0, rv (b + 1)), (1, rv x), (2, rv (t + 1)), (3, rv o), (4, .int x691)]) [3, 4, 5, 6, 0] rfl ?_
          exact hX23 _ _ _ _ _ _ _ _ hw
        · have hw := it_t hw c690
          refine gj_aload_n C dL_law_1789 5 rfl ?_
          refine gj_iconst (v := 0) C dL_law_1790 rfl ?_
          obtain ⟨h692, hw⟩ := hw
          obtain ⟨h693, hw⟩ := hw
          refine lp_lald B h692 h693 dL_law_1791 ?_
          refine gj_iload C dL_law_1792 0 rfl ?_
          refine gj_i2l C dL_law_1794 ?_
          refine gj_lcmp C dL_law_1795 ?_
          refine gj_if_eq (tgt := 1801) C dL_law_1796 rfl (fun c694 => ?_) (fun c694 => ?_)
          · have hw := it_t hw c694
            refine gj_goto (tgt := 2203) C dL_law_1801 rfl ?_
            obtain ⟨x695, ex695⟩ : ∃ x695 : Int32, x695 = v4 + 6 := ⟨_, rfl⟩
            have hw := hw x695 ex695
            refine gj_iinc (lc' := [(4, .int x695), (6, .int z683), (5, .int z678), (0, rv (b + 1)), (1, rv x), (2, rv (t + 1)), (3, rv o)]) (w := 6) (v := x695) C dL_law_2203 6 rfl rfl ex695.symm (Nat.le_of_ble_eq_true rfl) (show lst1 _ 4 _ = _ by simp [lst1, rv_cat]) ?_
            refine gj_goto (tgt := 23) C dL_law_2206 rfl ?_
            refine gj_sub (lc' := [(0, rv (b + 1)), (1, rv x), (2, rv (t + 1)), (3, rv o), (4, .int x695)]) [3, 4, 5, 6, 0] rfl ?_
            exact hX23 _ _ _ _ _ _ _ _ hw
          · have hw := it_f hw c694
            refine gj_iconst (v := 0) C dL_law_1799 rfl ?_
            obtain ⟨h696, hw⟩ := hw
            exact lp_ret B h696 hw dL_law_1800
      · have hw := it_f hw c689
        refine gj_iconst (v := 0) C dL_law_1782 rfl ?_
        obtain ⟨h697, hw⟩ := hw
        exact lp_ret B h697 hw dL_law_1783
    have hw := it_f hw c670
    by_cases c698 : ((xs (Int32.toNatClampNeg v4)) &&& 63) = 27
    · have hw := it_t hw c698
      refine gj_tabIn (v := 27) (tgt := 1804) C dL_law_40 c698 (by decide) (by decide) (by rfl) rfl ?_
      refine gj_aload_n C dL_law_1804 1 rfl ?_
      refine gj_aload_n C dL_law_1805 0 rfl ?_
      refine gj_iload C dL_law_1806 4 rfl ?_
      refine gj_iconst (v := 1) C dL_law_1808 rfl ?_
      refine gj_iadd C dL_law_1809 ?_
      obtain ⟨h699, hw⟩ := hw
      refine lp_iald B h699 dL_law_1810 ?_
      refine gj_aload_n C dL_law_1811 3 rfl ?_
      obtain ⟨h700, hw⟩ := hw
      refine lp_enterC (fun H hT => ?_)
      refine tc_X0_197 C hW hw (lrm B (Nat.le_of_ble_eq_true rfl) (Nat.le_of_ble_eq_true rfl) h700) B.2.2.2.2.1 (gc_rest (Nat.le_of_ble_eq_true rfl)) dL_law_1812 (fun _ _ _ _ _ _ _ _ _ _ _ hf => hf.elim) (fun z705 I701 R702 K703 n704 hw => ?_)
      refine lp_leaveC B hT ?_
      refine gj_istore (lc' := [(5, .int z705), (0, rv (b + 1)), (1, rv x), (2, rv (t + 1)), (3, rv o), (4, .int v4)]) C dL_law_1815 (Nat.le_of_ble_eq_true rfl) rfl ?_
      refine gj_aload_n C dL_law_1817 3 rfl ?_
      refine gj_aload_n C dL_law_1818 1 rfl ?_
      refine gj_iload C dL_law_1819 5 rfl ?_
      refine gj_iconst (v := 1) C dL_law_1821 rfl ?_
      refine gj_iadd C dL_law_1822 ?_
      obtain ⟨h706, hw⟩ := hw
      refine lp_iald B h706 dL_law_1823 ?_
      obtain ⟨h710, hw⟩ := hw
      refine lp_enterT (fun H hC => ?_)
      refine tl_X3_lender B hw h710 (gc_rest (Nat.le_of_ble_eq_true rfl)) dL_law_1824 (fun z709 J707 l708 hw => ?_)
      refine lp_leaveT B hC ?_
      refine gj_istore (lc' := [(6, .int z709), (5, .int z705), (0, rv (b + 1)), (1, rv x), (2, rv (t + 1)), (3, rv o), (4, .int v4)]) C dL_law_1827 (Nat.le_of_ble_eq_true rfl) rfl ?_
      refine gj_aload_n C dL_law_1829 4 rfl ?_
      obtain ⟨h714, hw⟩ := hw
      refine lp_enterT (fun H hC => ?_)
      refine tl_X3_thrown B hw h714 (gc_rest (Nat.le_of_ble_eq_true rfl)) dL_law_1830 (fun z713 J711 l712 hw => ?_)
      refine lp_leaveT B hC ?_
      refine gj_iload C dL_law_1833 1 rfl ?_
      refine gj_icmp_eq (tgt := 1840) C dL_law_1835 rfl (fun c715 => ?_) (fun c715 => ?_)
      · have hw := it_t hw c715
        refine gj_iload C dL_law_1840 1 rfl ?_
        refine gj_if_ne (tgt := 1857) C dL_law_1842 rfl (fun c716 => ?_) (fun c716 => ?_)
        · have hw := it_f hw c716
          refine gj_goto (tgt := 2203) C dL_law_1857 rfl ?_
          obtain ⟨x717, ex717⟩ : ∃ x717 : Int32, x717 = v4 + 6 := ⟨_, rfl⟩
          have hw := hw x717 ex717
          refine gj_iinc (lc' := [(4, .int x717), (6, .int z709), (5, .int z705), (0, rv (b + 1)), (1, rv x), (2, rv (t + 1)), (3, rv o)]) (w := 6) (v := x717) C dL_law_2203 6 rfl rfl ex717.symm (Nat.le_of_ble_eq_true rfl) (show lst1 _ 4 _ = _ by simp [lst1, rv_cat]) ?_
          refine gj_goto (tgt := 23) C dL_law_2206 rfl ?_
          refine gj_sub (lc' := [(0, rv (b + 1)), (1, rv x), (2, rv (t + 1)), (3, rv o), (4, .int x717)]) [3, 4, 5, 6, 0] rfl ?_
          exact hX23 _ _ _ _ _ _ _ _ hw
        · have hw := it_t hw c716
          refine gj_aload_n C dL_law_1845 5 rfl ?_
          refine gj_iconst (v := 0) C dL_law_1846 rfl ?_
          obtain ⟨h718, hw⟩ := hw
          obtain ⟨h719, hw⟩ := hw
          refine lp_lald B h718 h719 dL_law_1847 ?_
          refine gj_iload C dL_law_1848 0 rfl ?_
          refine gj_i2l C dL_law_1850 ?_
          refine gj_lcmp C dL_law_1851 ?_
          refine gj_if_eq (tgt := 1857) C dL_law_1852 rfl (fun c720 => ?_) (fun c720 => ?_)
          · have hw := it_t hw c720
            refine gj_goto (tgt := 2203) C dL_law_1857 rfl ?_
            obtain ⟨x721, ex721⟩ : ∃ x721 : Int32, x721 = v4 + 6 := ⟨_, rfl⟩
            have hw := hw x721 ex721
            refine gj_iinc (lc' := [(4, .int x721), (6, .int z709), (5, .int z705), (0, rv (b + 1)), (1, rv x), (2, rv (t + 1)), (3, rv o)]) (w := 6) (v := x721) C dL_law_2203 6 rfl rfl ex721.symm (Nat.le_of_ble_eq_true rfl) (show lst1 _ 4 _ = _ by simp [lst1, rv_cat]) ?_
            refine gj_goto (tgt := 23) C dL_law_2206 rfl ?_
            refine gj_sub (lc' := [(0, rv (b + 1)), (1, rv x), (2, rv (t + 1)), (3, rv o), (4, .int x721)]) [3, 4, 5, 6, 0] rfl ?_
            exact hX23 _ _ _ _ _ _ _ _ hw
          · have hw := it_f hw c720
            refine gj_iconst (v := 0) C dL_law_1855 rfl ?_
            obtain ⟨h722, hw⟩ := hw
            exact lp_ret B h722 hw dL_law_1856
      · have hw := it_f hw c715
        refine gj_iconst (v := 0) C dL_law_1838 rfl ?_
        obtain ⟨h723, hw⟩ := hw
        exact lp_ret B h723 hw dL_law_1839
    have hw := it_f hw c698
    by_cases c724 : ((xs (Int32.toNatClampNeg v4)) &&& 63) = 28
    · have hw := it_t hw c724
      refine gj_tabIn (v := 28) (tgt := 1860) C dL_law_40 c724 (by decide) (by decide) (by rfl) rfl ?_
      refine gj_aload_n C dL_law_1860 1 rfl ?_
      refine gj_aload_n C dL_law_1861 0 rfl ?_
      refine gj_iload C dL_law_1862 4 rfl ?_
      refine gj_iconst (v := 1) C dL_law_1864 rfl ?_
      refine gj_iadd C dL_law_1865 ?_
      obtain ⟨h725, hw⟩ := hw
      refine lp_iald B h725 dL_law_1866 ?_
      refine gj_aload_n C dL_law_1867 0 rfl ?_
      refine gj_iload C dL_law_1868 4 rfl ?_
      refine gj_iconst (v := 2) C dL_law_1870 rfl ?_
      refine gj_iadd C dL_law_1871 ?_
      obtain ⟨h726, hw⟩ := hw
      refine lp_iald B h726 dL_law_1872 ?_
      refine gj_aload_n C dL_law_1873 3 rfl ?_
      obtain ⟨h727, hw⟩ := hw
      refine lp_enterC (fun H hT => ?_)
      refine tc_X0_200 C hW hw (lrm B (Nat.le_of_ble_eq_true rfl) (Nat.le_of_ble_eq_true rfl) h727) B.2.2.2.2.1 (gc_rest (Nat.le_of_ble_eq_true rfl)) dL_law_1874 (fun _ _ _ _ _ _ _ _ _ _ _ hf => hf.elim) (fun z732 I728 R729 K730 n731 hw => ?_)
      refine lp_leaveC B hT ?_
      refine gj_istore (lc' := [(5, .int z732), (0, rv (b + 1)), (1, rv x), (2, rv (t + 1)), (3, rv o), (4, .int v4)]) C dL_law_1877 (Nat.le_of_ble_eq_true rfl) rfl ?_
      refine gj_aload_n C dL_law_1879 3 rfl ?_
      refine gj_aload_n C dL_law_1880 1 rfl ?_
      refine gj_iload C dL_law_1881 5 rfl ?_
      refine gj_iconst (v := 1) C dL_law_1883 rfl ?_
      refine gj_iadd C dL_law_1884 ?_
      obtain ⟨h733, hw⟩ := hw
      refine lp_iald B h733 dL_law_1885 ?_
      refine gj_aload_n C dL_law_1886 1 rfl ?_
      refine gj_iload C dL_law_1887 5 rfl ?_
      refine gj_iconst (v := 2) C dL_law_1889 rfl ?_
      refine gj_iadd C dL_law_1890 ?_
      obtain ⟨h734, hw⟩ := hw
      refine lp_iald B h734 dL_law_1891 ?_
      obtain ⟨h738, hw⟩ := hw
      refine lp_enterT (fun H hC => ?_)
      refine tl_X3_kinds B hw h738 (gc_rest (Nat.le_of_ble_eq_true rfl)) dL_law_1892 (fun z737 J735 l736 hw => ?_)
      refine lp_leaveT B hC ?_
      refine gj_istore (lc' := [(6, .int z737), (5, .int z732), (0, rv (b + 1)), (1, rv x), (2, rv (t + 1)), (3, rv o), (4, .int v4)]) C dL_law_1895 (Nat.le_of_ble_eq_true rfl) rfl ?_
      refine gj_aload_n C dL_law_1897 4 rfl ?_
      obtain ⟨h742, hw⟩ := hw
      refine lp_enterT (fun H hC => ?_)
      refine tl_X3_thrown B hw h742 (gc_rest (Nat.le_of_ble_eq_true rfl)) dL_law_1898 (fun z741 J739 l740 hw => ?_)
      refine lp_leaveT B hC ?_
      refine gj_iload C dL_law_1901 1 rfl ?_
      refine gj_icmp_eq (tgt := 1908) C dL_law_1903 rfl (fun c743 => ?_) (fun c743 => ?_)
      · have hw := it_t hw c743
        refine gj_iload C dL_law_1908 1 rfl ?_
        refine gj_if_ne (tgt := 1925) C dL_law_1910 rfl (fun c744 => ?_) (fun c744 => ?_)
        · have hw := it_f hw c744
          refine gj_goto (tgt := 2203) C dL_law_1925 rfl ?_
          obtain ⟨x745, ex745⟩ : ∃ x745 : Int32, x745 = v4 + 6 := ⟨_, rfl⟩
          have hw := hw x745 ex745
          refine gj_iinc (lc' := [(4, .int x745), (6, .int z737), (5, .int z732), (0, rv (b + 1)), (1, rv x), (2, rv (t + 1)), (3, rv o)]) (w := 6) (v := x745) C dL_law_2203 6 rfl rfl ex745.symm (Nat.le_of_ble_eq_true rfl) (show lst1 _ 4 _ = _ by simp [lst1, rv_cat]) ?_
          refine gj_goto (tgt := 23) C dL_law_2206 rfl ?_
          refine gj_sub (lc' := [(0, rv (b + 1)), (1, rv x), (2, rv (t + 1)), (3, rv o), (4, .int x745)]) [3, 4, 5, 6, 0] rfl ?_
          exact hX23 _ _ _ _ _ _ _ _ hw
        · have hw := it_t hw c744
          refine gj_aload_n C dL_law_1913 5 rfl ?_
          refine gj_iconst (v := 0) C dL_law_1914 rfl ?_
          obtain ⟨h746, hw⟩ := hw
          obtain ⟨h747, hw⟩ := hw
          refine lp_lald B h746 h747 dL_law_1915 ?_
          refine gj_iload C dL_law_1916 0 rfl ?_
          refine gj_i2l C dL_law_1918 ?_
          refine gj_lcmp C dL_law_1919 ?_
          refine gj_if_eq (tgt := 1925) C dL_law_1920 rfl (fun c748 => ?_) (fun c748 => ?_)
          · have hw := it_t hw c748
            refine gj_goto (tgt := 2203) C dL_law_1925 rfl ?_
            obtain ⟨x749, ex749⟩ : ∃ x749 : Int32, x749 = v4 + 6 := ⟨_, rfl⟩
            have hw := hw x749 ex749
            refine gj_iinc (lc' := [(4, .int x749), (6, .int z737), (5, .int z732), (0, rv (b + 1)), (1, rv x), (2, rv (t + 1)), (3, rv o)]) (w := 6) (v := x749) C dL_law_2203 6 rfl rfl ex749.symm (Nat.le_of_ble_eq_true rfl) (show lst1 _ 4 _ = _ by simp [lst1, rv_cat]) ?_
            refine gj_goto (tgt := 23) C dL_law_2206 rfl ?_
            refine gj_sub (lc' := [(0, rv (b + 1)), (1, rv x), (2, rv (t + 1)), (3, rv o), (4, .int x749)]) [3, 4, 5, 6, 0] rfl ?_
            exact hX23 _ _ _ _ _ _ _ _ hw
          · have hw := it_f hw c748
            refine gj_iconst (v := 0) C dL_law_1923 rfl ?_
            obtain ⟨h750, hw⟩ := hw
            exact lp_ret B h750 hw dL_law_1924
      · have hw := it_f hw c743
        refine gj_iconst (v := 0) C dL_law_1906 rfl ?_
        obtain ⟨h751, hw⟩ := hw
        exact lp_ret B h751 hw dL_law_1907
    have hw := it_f hw c724
    by_cases c752 : ((xs (Int32.toNatClampNeg v4)) &&& 63) = 29
    · have hw := it_t hw c752
      refine gj_tabIn (v := 29) (tgt := 1928) C dL_law_40 c752 (by decide) (by decide) (by rfl) rfl ?_
      refine gj_aload_n C dL_law_1928 1 rfl ?_
      refine gj_aload_n C dL_law_1929 0 rfl ?_
      refine gj_iload C dL_law_1930 4 rfl ?_
      refine gj_iconst (v := 1) C dL_law_1932 rfl ?_
      refine gj_iadd C dL_law_1933 ?_
      obtain ⟨h753, hw⟩ := hw
      refine lp_iald B h753 dL_law_1934 ?_
      refine gj_aload_n C dL_law_1935 0 rfl ?_
      refine gj_iload C dL_law_1936 4 rfl ?_
      refine gj_iconst (v := 2) C dL_law_1938 rfl ?_
      refine gj_iadd C dL_law_1939 ?_
      obtain ⟨h754, hw⟩ := hw
      refine lp_iald B h754 dL_law_1940 ?_
      refine gj_aload_n C dL_law_1941 3 rfl ?_
      obtain ⟨h755, hw⟩ := hw
      refine lp_enterC (fun H hT => ?_)
      refine tc_X0_203 C hW hw (lrm B (Nat.le_of_ble_eq_true rfl) (Nat.le_of_ble_eq_true rfl) h755) B.2.2.2.2.1 (gc_rest (Nat.le_of_ble_eq_true rfl)) dL_law_1942 (fun _ _ _ _ _ _ _ _ _ _ _ hf => hf.elim) (fun z760 I756 R757 K758 n759 hw => ?_)
      refine lp_leaveC B hT ?_
      refine gj_istore (lc' := [(5, .int z760), (0, rv (b + 1)), (1, rv x), (2, rv (t + 1)), (3, rv o), (4, .int v4)]) C dL_law_1945 (Nat.le_of_ble_eq_true rfl) rfl ?_
      refine gj_aload_n C dL_law_1947 3 rfl ?_
      refine gj_aload_n C dL_law_1948 1 rfl ?_
      refine gj_iload C dL_law_1949 5 rfl ?_
      refine gj_iconst (v := 1) C dL_law_1951 rfl ?_
      refine gj_iadd C dL_law_1952 ?_
      obtain ⟨h761, hw⟩ := hw
      refine lp_iald B h761 dL_law_1953 ?_
      refine gj_aload_n C dL_law_1954 1 rfl ?_
      refine gj_iload C dL_law_1955 5 rfl ?_
      refine gj_iconst (v := 2) C dL_law_1957 rfl ?_
      refine gj_iadd C dL_law_1958 ?_
      obtain ⟨h762, hw⟩ := hw
      refine lp_iald B h762 dL_law_1959 ?_
      obtain ⟨h766, hw⟩ := hw
      refine lp_enterT (fun H hC => ?_)
      refine tl_X3_word B hw h766 (gc_rest (Nat.le_of_ble_eq_true rfl)) dL_law_1960 (fun z765 J763 l764 hw => ?_)
      refine lp_leaveT B hC ?_
      refine gj_istore (lc' := [(6, .int z765), (5, .int z760), (0, rv (b + 1)), (1, rv x), (2, rv (t + 1)), (3, rv o), (4, .int v4)]) C dL_law_1963 (Nat.le_of_ble_eq_true rfl) rfl ?_
      refine gj_aload_n C dL_law_1965 4 rfl ?_
      obtain ⟨h770, hw⟩ := hw
      refine lp_enterT (fun H hC => ?_)
      refine tl_X3_thrown B hw h770 (gc_rest (Nat.le_of_ble_eq_true rfl)) dL_law_1966 (fun z769 J767 l768 hw => ?_)
      refine lp_leaveT B hC ?_
      refine gj_iload C dL_law_1969 1 rfl ?_
      refine gj_icmp_eq (tgt := 1976) C dL_law_1971 rfl (fun c771 => ?_) (fun c771 => ?_)
      · have hw := it_t hw c771
        refine gj_iload C dL_law_1976 1 rfl ?_
        refine gj_if_ne (tgt := 1993) C dL_law_1978 rfl (fun c772 => ?_) (fun c772 => ?_)
        · have hw := it_f hw c772
          refine gj_goto (tgt := 2203) C dL_law_1993 rfl ?_
          obtain ⟨x773, ex773⟩ : ∃ x773 : Int32, x773 = v4 + 6 := ⟨_, rfl⟩
          have hw := hw x773 ex773
          refine gj_iinc (lc' := [(4, .int x773), (6, .int z765), (5, .int z760), (0, rv (b + 1)), (1, rv x), (2, rv (t + 1)), (3, rv o)]) (w := 6) (v := x773) C dL_law_2203 6 rfl rfl ex773.symm (Nat.le_of_ble_eq_true rfl) (show lst1 _ 4 _ = _ by simp [lst1, rv_cat]) ?_
          refine gj_goto (tgt := 23) C dL_law_2206 rfl ?_
          refine gj_sub (lc' := [(0, rv (b + 1)), (1, rv x), (2, rv (t + 1)), (3, rv o), (4, .int x773)]) [3, 4, 5, 6, 0] rfl ?_
          exact hX23 _ _ _ _ _ _ _ _ hw
        · have hw := it_t hw c772
          refine gj_aload_n C dL_law_1981 5 rfl ?_
          refine gj_iconst (v := 0) C dL_law_1982 rfl ?_
          obtain ⟨h774, hw⟩ := hw
          obtain ⟨h775, hw⟩ := hw
          refine lp_lald B h774 h775 dL_law_1983 ?_
          refine gj_iload C dL_law_1984 0 rfl ?_
          refine gj_i2l C dL_law_1986 ?_
          refine gj_lcmp C dL_law_1987 ?_
          refine gj_if_eq (tgt := 1993) C dL_law_1988 rfl (fun c776 => ?_) (fun c776 => ?_)
          · have hw := it_t hw c776
            refine gj_goto (tgt := 2203) C dL_law_1993 rfl ?_
            obtain ⟨x777, ex777⟩ : ∃ x777 : Int32, x777 = v4 + 6 := ⟨_, rfl⟩
            have hw := hw x777 ex777
            refine gj_iinc (lc' := [(4, .int x777), (6, .int z765), (5, .int z760), (0, rv (b + 1)), (1, rv x), (2, rv (t + 1)), (3, rv o)]) (w := 6) (v := x777) C dL_law_2203 6 rfl rfl ex777.symm (Nat.le_of_ble_eq_true rfl) (show lst1 _ 4 _ = _ by simp [lst1, rv_cat]) ?_
            refine gj_goto (tgt := 23) C dL_law_2206 rfl ?_
            refine gj_sub (lc' := [(0, rv (b + 1)), (1, rv x), (2, rv (t + 1)), (3, rv o), (4, .int x777)]) [3, 4, 5, 6, 0] rfl ?_
            exact hX23 _ _ _ _ _ _ _ _ hw
          · have hw := it_f hw c776
            refine gj_iconst (v := 0) C dL_law_1991 rfl ?_
            obtain ⟨h778, hw⟩ := hw
            exact lp_ret B h778 hw dL_law_1992
      · have hw := it_f hw c771
        refine gj_iconst (v := 0) C dL_law_1974 rfl ?_
        obtain ⟨h779, hw⟩ := hw
        exact lp_ret B h779 hw dL_law_1975
    have hw := it_f hw c752
    by_cases c780 : ((xs (Int32.toNatClampNeg v4)) &&& 63) = 30
    · have hw := it_t hw c780
      refine gj_tabIn (v := 30) (tgt := 1996) C dL_law_40 c780 (by decide) (by decide) (by rfl) rfl ?_
      refine gj_aload_n C dL_law_1996 1 rfl ?_
      refine gj_aload_n C dL_law_1997 0 rfl ?_
      refine gj_iload C dL_law_1998 4 rfl ?_
      refine gj_iconst (v := 1) C dL_law_2000 rfl ?_
      refine gj_iadd C dL_law_2001 ?_
      obtain ⟨h781, hw⟩ := hw
      refine lp_iald B h781 dL_law_2002 ?_
      refine gj_aload_n C dL_law_2003 0 rfl ?_
      refine gj_iload C dL_law_2004 4 rfl ?_
      refine gj_iconst (v := 2) C dL_law_2006 rfl ?_
      refine gj_iadd C dL_law_2007 ?_
      obtain ⟨h782, hw⟩ := hw
      refine lp_iald B h782 dL_law_2008 ?_
      refine gj_aload_n C dL_law_2009 0 rfl ?_
      refine gj_iload C dL_law_2010 4 rfl ?_
      refine gj_iconst (v := 3) C dL_law_2012 rfl ?_
      refine gj_iadd C dL_law_2013 ?_
      obtain ⟨h783, hw⟩ := hw
      refine lp_iald B h783 dL_law_2014 ?_
      refine gj_aload_n C dL_law_2015 3 rfl ?_
      obtain ⟨h784, hw⟩ := hw
      refine lp_enterC (fun H hT => ?_)
      refine tc_X0_206 C hW hw (lrm B (Nat.le_of_ble_eq_true rfl) (Nat.le_of_ble_eq_true rfl) h784) B.2.2.2.2.1 (gc_rest (Nat.le_of_ble_eq_true rfl)) dL_law_2016 (fun _ _ _ _ _ _ _ _ _ _ _ hf => hf.elim) (fun z789 I785 R786 K787 n788 hw => ?_)
      refine lp_leaveC B hT ?_
      refine gj_istore (lc' := [(5, .int z789), (0, rv (b + 1)), (1, rv x), (2, rv (t + 1)), (3, rv o), (4, .int v4)]) C dL_law_2019 (Nat.le_of_ble_eq_true rfl) rfl ?_
      refine gj_aload_n C dL_law_2021 3 rfl ?_
      refine gj_aload_n C dL_law_2022 1 rfl ?_
      refine gj_iload C dL_law_2023 5 rfl ?_
      refine gj_iconst (v := 1) C dL_law_2025 rfl ?_
      refine gj_iadd C dL_law_2026 ?_
      obtain ⟨h790, hw⟩ := hw
      refine lp_iald B h790 dL_law_2027 ?_
      refine gj_aload_n C dL_law_2028 1 rfl ?_
      refine gj_iload C dL_law_2029 5 rfl ?_
      refine gj_iconst (v := 2) C dL_law_2031 rfl ?_
      refine gj_iadd C dL_law_2032 ?_
      obtain ⟨h791, hw⟩ := hw
      refine lp_iald B h791 dL_law_2033 ?_
      refine gj_aload_n C dL_law_2034 1 rfl ?_
      refine gj_iload C dL_law_2035 5 rfl ?_
      refine gj_iconst (v := 3) C dL_law_2037 rfl ?_
      refine gj_iadd C dL_law_2038 ?_
      obtain ⟨h792, hw⟩ := hw
      refine lp_iald B h792 dL_law_2039 ?_
      obtain ⟨h796, hw⟩ := hw
      refine lp_enterT (fun H hC => ?_)
      refine tl_X3_mend B hw h796 (gc_rest (Nat.le_of_ble_eq_true rfl)) dL_law_2040 (fun z795 J793 l794 hw => ?_)
      refine lp_leaveT B hC ?_
      refine gj_istore (lc' := [(6, .int z795), (5, .int z789), (0, rv (b + 1)), (1, rv x), (2, rv (t + 1)), (3, rv o), (4, .int v4)]) C dL_law_2043 (Nat.le_of_ble_eq_true rfl) rfl ?_
      refine gj_aload_n C dL_law_2045 4 rfl ?_
      obtain ⟨h800, hw⟩ := hw
      refine lp_enterT (fun H hC => ?_)
      refine tl_X3_thrown B hw h800 (gc_rest (Nat.le_of_ble_eq_true rfl)) dL_law_2046 (fun z799 J797 l798 hw => ?_)
      refine lp_leaveT B hC ?_
      refine gj_iload C dL_law_2049 1 rfl ?_
      refine gj_icmp_eq (tgt := 2056) C dL_law_2051 rfl (fun c801 => ?_) (fun c801 => ?_)
      · have hw := it_t hw c801
        refine gj_iload C dL_law_2056 1 rfl ?_
        refine gj_if_ne (tgt := 2073) C dL_law_2058 rfl (fun c802 => ?_) (fun c802 => ?_)
        · have hw := it_f hw c802
          refine gj_goto (tgt := 2203) C dL_law_2073 rfl ?_
          obtain ⟨x803, ex803⟩ : ∃ x803 : Int32, x803 = v4 + 6 := ⟨_, rfl⟩
          have hw := hw x803 ex803
          refine gj_iinc (lc' := [(4, .int x803), (6, .int z795), (5, .int z789), (0, rv (b + 1)), (1, rv x), (2, rv (t + 1)), (3, rv o)]) (w := 6) (v := x803) C dL_law_2203 6 rfl rfl ex803.symm (Nat.le_of_ble_eq_true rfl) (show lst1 _ 4 _ = _ by simp [lst1, rv_cat]) ?_
          refine gj_goto (tgt := 23) C dL_law_2206 rfl ?_
          refine gj_sub (lc' := [(0, rv (b + 1)), (1, rv x), (2, rv (t + 1)), (3, rv o), (4, .int x803)]) [3, 4, 5, 6, 0] rfl ?_
          exact hX23 _ _ _ _ _ _ _ _ hw
        · have hw := it_t hw c802
          refine gj_aload_n C dL_law_2061 5 rfl ?_
          refine gj_iconst (v := 0) C dL_law_2062 rfl ?_
          obtain ⟨h804, hw⟩ := hw
          obtain ⟨h805, hw⟩ := hw
          refine lp_lald B h804 h805 dL_law_2063 ?_
          refine gj_iload C dL_law_2064 0 rfl ?_
          refine gj_i2l C dL_law_2066 ?_
          refine gj_lcmp C dL_law_2067 ?_
          refine gj_if_eq (tgt := 2073) C dL_law_2068 rfl (fun c806 => ?_) (fun c806 => ?_)
          · have hw := it_t hw c806
            refine gj_goto (tgt := 2203) C dL_law_2073 rfl ?_
            obtain ⟨x807, ex807⟩ : ∃ x807 : Int32, x807 = v4 + 6 := ⟨_, rfl⟩
            have hw := hw x807 ex807
            refine gj_iinc (lc' := [(4, .int x807), (6, .int z795), (5, .int z789), (0, rv (b + 1)), (1, rv x), (2, rv (t + 1)), (3, rv o)]) (w := 6) (v := x807) C dL_law_2203 6 rfl rfl ex807.symm (Nat.le_of_ble_eq_true rfl) (show lst1 _ 4 _ = _ by simp [lst1, rv_cat]) ?_
            refine gj_goto (tgt := 23) C dL_law_2206 rfl ?_
            refine gj_sub (lc' := [(0, rv (b + 1)), (1, rv x), (2, rv (t + 1)), (3, rv o), (4, .int x807)]) [3, 4, 5, 6, 0] rfl ?_
            exact hX23 _ _ _ _ _ _ _ _ hw
          · have hw := it_f hw c806
            refine gj_iconst (v := 0) C dL_law_2071 rfl ?_
            obtain ⟨h808, hw⟩ := hw
            exact lp_ret B h808 hw dL_law_2072
      · have hw := it_f hw c801
        refine gj_iconst (v := 0) C dL_law_2054 rfl ?_
        obtain ⟨h809, hw⟩ := hw
        exact lp_ret B h809 hw dL_law_2055
    have hw := it_f hw c780
    by_cases c810 : ((xs (Int32.toNatClampNeg v4)) &&& 63) = 31
    · have hw := it_t hw c810
      refine gj_tabIn (v := 31) (tgt := 2076) C dL_law_40 c810 (by decide) (by decide) (by rfl) rfl ?_
      refine gj_aload_n C dL_law_2076 1 rfl ?_
      refine gj_aload_n C dL_law_2077 0 rfl ?_
      refine gj_iload C dL_law_2078 4 rfl ?_
      refine gj_iconst (v := 1) C dL_law_2080 rfl ?_
      refine gj_iadd C dL_law_2081 ?_
      obtain ⟨h811, hw⟩ := hw
      refine lp_iald B h811 dL_law_2082 ?_
      refine gj_aload_n C dL_law_2083 0 rfl ?_
      refine gj_iload C dL_law_2084 4 rfl ?_
      refine gj_iconst (v := 2) C dL_law_2086 rfl ?_
      refine gj_iadd C dL_law_2087 ?_
      obtain ⟨h812, hw⟩ := hw
      refine lp_iald B h812 dL_law_2088 ?_
      refine gj_aload_n C dL_law_2089 0 rfl ?_
      refine gj_iload C dL_law_2090 4 rfl ?_
      refine gj_iconst (v := 3) C dL_law_2092 rfl ?_
      refine gj_iadd C dL_law_2093 ?_
      obtain ⟨h813, hw⟩ := hw
      refine lp_iald B h813 dL_law_2094 ?_
      refine gj_aload_n C dL_law_2095 0 rfl ?_
      refine gj_iload C dL_law_2096 4 rfl ?_
      refine gj_iconst (v := 4) C dL_law_2098 rfl ?_
      refine gj_iadd C dL_law_2099 ?_
      obtain ⟨h814, hw⟩ := hw
      refine lp_iald B h814 dL_law_2100 ?_
      refine gj_aload_n C dL_law_2101 0 rfl ?_
      refine gj_iload C dL_law_2102 4 rfl ?_
      refine gj_iconst (v := 5) C dL_law_2104 rfl ?_
      refine gj_iadd C dL_law_2105 ?_
      obtain ⟨h815, hw⟩ := hw
      refine lp_iald B h815 dL_law_2106 ?_
      refine gj_aload_n C dL_law_2107 3 rfl ?_
      obtain ⟨h816, hw⟩ := hw
      refine lp_enterC (fun H hT => ?_)
      refine tc_X0_209 C hW hw (lrm B (Nat.le_of_ble_eq_true rfl) (Nat.le_of_ble_eq_true rfl) h816) B.2.2.2.2.1 (gc_rest (Nat.le_of_ble_eq_true rfl)) dL_law_2108 (fun _ _ _ _ _ _ _ _ _ _ _ hf => hf.elim) (fun z821 I817 R818 K819 n820 hw => ?_)
      refine lp_leaveC B hT ?_
      refine gj_istore (lc' := [(5, .int z821), (0, rv (b + 1)), (1, rv x), (2, rv (t + 1)), (3, rv o), (4, .int v4)]) C dL_law_2111 (Nat.le_of_ble_eq_true rfl) rfl ?_
      refine gj_aload_n C dL_law_2113 3 rfl ?_
      refine gj_aload_n C dL_law_2114 1 rfl ?_
      refine gj_iload C dL_law_2115 5 rfl ?_
      refine gj_iconst (v := 1) C dL_law_2117 rfl ?_
      refine gj_iadd C dL_law_2118 ?_
      obtain ⟨h822, hw⟩ := hw
      refine lp_iald B h822 dL_law_2119 ?_
      refine gj_aload_n C dL_law_2120 1 rfl ?_
      refine gj_iload C dL_law_2121 5 rfl ?_
      refine gj_iconst (v := 2) C dL_law_2123 rfl ?_
      refine gj_iadd C dL_law_2124 ?_
      obtain ⟨h823, hw⟩ := hw
      refine lp_iald B h823 dL_law_2125 ?_
      refine gj_aload_n C dL_law_2126 1 rfl ?_
      refine gj_iload C dL_law_2127 5 rfl ?_
      refine gj_iconst (v := 3) C dL_law_2129 rfl ?_
      refine gj_iadd C dL_law_2130 ?_
      obtain ⟨h824, hw⟩ := hw
      refine lp_iald B h824 dL_law_2131 ?_
      refine gj_aload_n C dL_law_2132 1 rfl ?_
      refine gj_iload C dL_law_2133 5 rfl ?_
      refine gj_iconst (v := 4) C dL_law_2135 rfl ?_
      refine gj_iadd C dL_law_2136 ?_
      obtain ⟨h825, hw⟩ := hw
      refine lp_iald B h825 dL_law_2137 ?_
      refine gj_aload_n C dL_law_2138 1 rfl ?_
      refine gj_iload C dL_law_2139 5 rfl ?_
      refine gj_iconst (v := 5) C dL_law_2141 rfl ?_
      refine gj_iadd C dL_law_2142 ?_
      obtain ⟨h826, hw⟩ := hw
      refine lp_iald B h826 dL_law_2143 ?_
      obtain ⟨h830, hw⟩ := hw
      refine lp_enterT (fun H hC => ?_)
      refine tl_X3_fire B hw h830 (gc_rest (Nat.le_of_ble_eq_true rfl)) dL_law_2144 (fun z829 J827 l828 hw => ?_)
      refine lp_leaveT B hC ?_
      refine gj_lstore (lc' := [(6, .long z829), (5, .int z821), (0, rv (b + 1)), (1, rv x), (2, rv (t + 1)), (3, rv o), (4, .int v4)]) C dL_law_2147 (Nat.le_of_ble_eq_true rfl) rfl ?_
      refine gj_aload_n C dL_law_2149 4 rfl ?_
      obtain ⟨h834, hw⟩ := hw
      refine lp_enterT (fun H hC => ?_)
      refine tl_X3_thrown B hw h834 (gc_rest (Nat.le_of_ble_eq_true rfl)) dL_law_2150 (fun z833 J831 l832 hw => ?_)
      refine lp_leaveT B hC ?_
      refine gj_iload C dL_law_2153 1 rfl ?_
      refine gj_icmp_eq (tgt := 2160) C dL_law_2155 rfl (fun c835 => ?_) (fun c835 => ?_)
      · have hw := it_t hw c835
        refine gj_iload C dL_law_2160 1 rfl ?_
        refine gj_if_ne (tgt := 2176) C dL_law_2162 rfl (fun c836 => ?_) (fun c836 => ?_)
        · have hw := it_f hw c836
          refine gj_goto (tgt := 2203) C dL_law_2176 rfl ?_
          obtain ⟨x837, ex837⟩ : ∃ x837 : Int32, x837 = v4 + 6 := ⟨_, rfl⟩
          have hw := hw x837 ex837
          refine gj_iinc (lc' := [(4, .int x837), (6, .long z829), (5, .int z821), (0, rv (b + 1)), (1, rv x), (2, rv (t + 1)), (3, rv o)]) (w := 6) (v := x837) C dL_law_2203 6 rfl rfl ex837.symm (Nat.le_of_ble_eq_true rfl) (show lst1 _ 4 _ = _ by simp [lst1, rv_cat]) ?_
          refine gj_goto (tgt := 23) C dL_law_2206 rfl ?_
          refine gj_sub (lc' := [(0, rv (b + 1)), (1, rv x), (2, rv (t + 1)), (3, rv o), (4, .int x837)]) [3, 4, 5, 6, 0] rfl ?_
          exact hX23 _ _ _ _ _ _ _ _ hw
        · have hw := it_t hw c836
          refine gj_aload_n C dL_law_2165 5 rfl ?_
          refine gj_iconst (v := 0) C dL_law_2166 rfl ?_
          obtain ⟨h838, hw⟩ := hw
          obtain ⟨h839, hw⟩ := hw
          refine lp_lald B h838 h839 dL_law_2167 ?_
          refine gj_lload C dL_law_2168 0 rfl ?_
          refine gj_lcmp C dL_law_2170 ?_
          refine gj_if_eq (tgt := 2176) C dL_law_2171 rfl (fun c840 => ?_) (fun c840 => ?_)
          · have hw := it_t hw c840
            refine gj_goto (tgt := 2203) C dL_law_2176 rfl ?_
            obtain ⟨x841, ex841⟩ : ∃ x841 : Int32, x841 = v4 + 6 := ⟨_, rfl⟩
            have hw := hw x841 ex841
            refine gj_iinc (lc' := [(4, .int x841), (6, .long z829), (5, .int z821), (0, rv (b + 1)), (1, rv x), (2, rv (t + 1)), (3, rv o)]) (w := 6) (v := x841) C dL_law_2203 6 rfl rfl ex841.symm (Nat.le_of_ble_eq_true rfl) (show lst1 _ 4 _ = _ by simp [lst1, rv_cat]) ?_
            refine gj_goto (tgt := 23) C dL_law_2206 rfl ?_
            refine gj_sub (lc' := [(0, rv (b + 1)), (1, rv x), (2, rv (t + 1)), (3, rv o), (4, .int x841)]) [3, 4, 5, 6, 0] rfl ?_
            exact hX23 _ _ _ _ _ _ _ _ hw
          · have hw := it_f hw c840
            refine gj_iconst (v := 0) C dL_law_2174 rfl ?_
            obtain ⟨h842, hw⟩ := hw
            exact lp_ret B h842 hw dL_law_2175
      · have hw := it_f hw c835
        refine gj_iconst (v := 0) C dL_law_2158 rfl ?_
        obtain ⟨h843, hw⟩ := hw
        exact lp_ret B h843 hw dL_law_2159
    have hw := it_f hw c810
    by_cases c844 : ((xs (Int32.toNatClampNeg v4)) &&& 63) = 32
    · have hw := it_t hw c844
      refine gj_tabIn (v := 32) (tgt := 2179) C dL_law_40 c844 (by decide) (by decide) (by rfl) rfl ?_
      refine gj_aload_n C dL_law_2179 1 rfl ?_
      obtain ⟨h845, hw⟩ := hw
      obtain ⟨h846, hw⟩ := hw
      refine lp_enterC (fun H hT => ?_)
      refine tc_X0_213 C hW h845 hw (lrm B (Nat.le_of_ble_eq_true rfl) (Nat.le_of_ble_eq_true rfl) h846) B.2.2.2.2.1 (gc_rest (Nat.le_of_ble_eq_true rfl)) dL_law_2180 (fun _ _ _ _ _ _ _ _ _ _ _ hf => hf.elim) (fun I847 R848 K849 n850 hw => ?_)
      refine lp_leaveC B hT ?_
      refine gj_aload_n C dL_law_2183 2 rfl ?_
      obtain ⟨h855, hw⟩ := hw
      refine lp_enterT (fun H hC => ?_)
      refine tl_X3_image B hw h855 (gc_rest (Nat.le_of_ble_eq_true rfl)) dL_law_2184 (fun J852 l853 hw => ?_)
      refine lp_leaveT B hC ?_
      refine gj_goto (tgt := 2203) C dL_law_2187 rfl ?_
      obtain ⟨x856, ex856⟩ : ∃ x856 : Int32, x856 = v4 + 6 := ⟨_, rfl⟩
      have hw := hw x856 ex856
      refine gj_iinc (lc' := [(4, .int x856), (0, rv (b + 1)), (1, rv x), (2, rv (t + 1)), (3, rv o)]) (w := 6) (v := x856) C dL_law_2203 4 rfl rfl ex856.symm (Nat.le_of_ble_eq_true rfl) (show lst1 _ 4 _ = _ by simp [lst1, rv_cat]) ?_
      refine gj_goto (tgt := 23) C dL_law_2206 rfl ?_
      refine gj_sub (lc' := [(0, rv (b + 1)), (1, rv x), (2, rv (t + 1)), (3, rv o), (4, .int x856)]) [1, 2, 3, 4, 0] rfl ?_
      exact hX23 _ _ _ _ _ _ _ _ hw
    have hw := it_f hw c844
    by_cases c857 : ((xs (Int32.toNatClampNeg v4)) &&& 63) = 33
    · have hw := it_t hw c857
      refine gj_tabIn (v := 33) (tgt := 2190) C dL_law_40 c857 (by decide) (by decide) (by rfl) rfl ?_
      refine gj_aload_n C dL_law_2190 1 rfl ?_
      obtain ⟨h858, hw⟩ := hw
      obtain ⟨h859, hw⟩ := hw
      refine lp_enterC (fun H hT => ?_)
      refine tc_X0_217 C hW h858 hw (lrm B (Nat.le_of_ble_eq_true rfl) (Nat.le_of_ble_eq_true rfl) h859) B.2.2.2.2.1 (gc_rest (Nat.le_of_ble_eq_true rfl)) dL_law_2191 (fun _ _ _ _ _ _ _ _ _ _ _ hf => hf.elim) (fun z864 I860 R861 K862 n863 bz864 hw => ?_)
      refine lp_leaveC B hT ?_
      refine gj_aload_n C dL_law_2194 2 rfl ?_
      obtain ⟨h868, hw⟩ := hw
      refine lp_enterT (fun H hC => ?_)
      refine tl_X3_restore B hw h868 (gc_rest (Nat.le_of_ble_eq_true rfl)) dL_law_2195 (fun z867 J865 l866 bz867 hw => ?_)
      refine lp_leaveT B hC ?_
      refine gj_icmp_eq (tgt := 2203) C dL_law_2198 rfl (fun c869 => ?_) (fun c869 => ?_)
      · have hw := it_t hw c869
        obtain ⟨x870, ex870⟩ : ∃ x870 : Int32, x870 = v4 + 6 := ⟨_, rfl⟩
        have hw := hw x870 ex870
        refine gj_iinc (lc' := [(4, .int x870), (0, rv (b + 1)), (1, rv x), (2, rv (t + 1)), (3, rv o)]) (w := 6) (v := x870) C dL_law_2203 4 rfl rfl ex870.symm (Nat.le_of_ble_eq_true rfl) (show lst1 _ 4 _ = _ by simp [lst1, rv_cat]) ?_
        refine gj_goto (tgt := 23) C dL_law_2206 rfl ?_
        refine gj_sub (lc' := [(0, rv (b + 1)), (1, rv x), (2, rv (t + 1)), (3, rv o), (4, .int x870)]) [1, 2, 3, 4, 0] rfl ?_
        exact hX23 _ _ _ _ _ _ _ _ hw
      · have hw := it_f hw c869
        refine gj_iconst (v := 0) C dL_law_2201 rfl ?_
        obtain ⟨h871, hw⟩ := hw
        exact lp_ret B h871 hw dL_law_2202
    have hw := it_f hw c857
    refine gj_tabOut (tgt := 2203) C dL_law_40 (by have := lv_neT (a := 0) c4 rfl; have := lv_neT (a := 1) c29 rfl; have := lv_neT (a := 2) c55 rfl; have := lv_neT (a := 3) c70 rfl; have := lv_neT (a := 4) c96 rfl; have := lv_neT (a := 5) c124 rfl; have := lv_neT (a := 6) c152 rfl; have := lv_neT (a := 7) c182 rfl; have := lv_neT (a := 8) c210 rfl; have := lv_neT (a := 9) c240 rfl; have := lv_neT (a := 10) c255 rfl; have := lv_neT (a := 11) c270 rfl; have := lv_neT (a := 12) c298 rfl; have := lv_neT (a := 13) c326 rfl; have := lv_neT (a := 14) c356 rfl; have := lv_neT (a := 15) c384 rfl; have := lv_neT (a := 16) c414 rfl; have := lv_neT (a := 17) c429 rfl; have := lv_neT (a := 18) c444 rfl; have := lv_neT (a := 19) c472 rfl; have := lv_neT (a := 20) c498 rfl; have := lv_neT (a := 21) c524 rfl; have := lv_neT (a := 22) c554 rfl; have := lv_neT (a := 23) c582 rfl; have := lv_neT (a := 24) c612 rfl; have := lv_neT (a := 25) c640 rfl; have := lv_neT (a := 26) c670 rfl; have := lv_neT (a := 27) c698 rfl; have := lv_neT (a := 28) c724 rfl; have := lv_neT (a := 29) c752 rfl; have := lv_neT (a := 30) c780 rfl; have := lv_neT (a := 31) c810 rfl; have := lv_neT (a := 32) c844 rfl; have := lv_neT (a := 33) c857 rfl; omega) rfl ?_
    obtain ⟨x872, ex872⟩ : ∃ x872 : Int32, x872 = v4 + 6 := ⟨_, rfl⟩
    have hw := hw x872 ex872
    refine gj_iinc (lc' := [(4, .int x872), (0, rv (b + 1)), (1, rv x), (2, rv (t + 1)), (3, rv o)]) (w := 6) (v := x872) C dL_law_2203 4 rfl rfl ex872.symm (Nat.le_of_ble_eq_true rfl) (show lst1 _ 4 _ = _ by simp [lst1, rv_cat]) ?_
    refine gj_goto (tgt := 23) C dL_law_2206 rfl ?_
    refine gj_sub (lc' := [(0, rv (b + 1)), (1, rv x), (2, rv (t + 1)), (3, rv o), (4, .int x872)]) [1, 2, 3, 4, 0] rfl ?_
    exact hX23 _ _ _ _ _ _ _ _ hw

theorem wq_L_law_23 {g : Gm} {w : CD} {d : TD} (xs : Nat → Int32) (L t b x o : Nat) (B : BdL g w d xs L t b) (v4 : Int32) (I : MI) (R : MR) (K : MK) (nx : Nat) (J : Nat → Nat → Int32) (lw : Int64) (cu : Nat) (hw : wl_L_law_23 w xs L t b x o v4 I R K nx J lw cu) : GJ g 8 (LLP w d t I R K nx J lw) (cu) (QL g) 23 [(0, rv (b + 1)), (1, rv x), (2, rv (t + 1)), (3, rv o), (4, .int v4)] [] :=
  hw (fun v4 I R K nx J lw cu => GJ g 8 (LLP w d t I R K nx J lw) (cu) (QL g) 23 [(0, rv (b + 1)), (1, rv x), (2, rv (t + 1)), (3, rv o), (4, .int v4)] []) (fun v4 I R K nx J lw cu h => wk_L_law_23  xs L t b x o B (fun v4 I R K nx J lw cu => GJ g 8 (LLP w d t I R K nx J lw) (cu) (QL g) 23 [(0, rv (b + 1)), (1, rv x), (2, rv (t + 1)), (3, rv o), (4, .int v4)] []) (fun v4 I R K nx J lw cu h => h) v4 I R K nx J lw cu h)
