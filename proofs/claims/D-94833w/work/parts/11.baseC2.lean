set_option maxRecDepth 100000
theorem vx_ofWH {l : Launch} {y : MethodName} {ws ws' : List Cond} {rm : Room} {Pc : Array Value → State → Prop} {Qc : Array Value → State → Outcome → State → Prop} {XC : Nat → String → State → State → Prop} {mc ms : Nat} {free : Addr → Prop} {cc : ByteArray} {maxL : Nat} {ret : Option FieldType} {hh : List (Nat × Nat × Nat × Nat)}
    (hy : plainName y.cls = true) (hw : ws = Cond.codeWith y cc maxL ret hh :: ws')
    (body : ∀ p e s m args below meth c s₁, BodyLoose p l y (headSpec ws rm) cc maxL ret e s m args below meth c s₁ → c.maxLocals = maxL → Pc args s →
      W p l e (headSpec ws rm).room s m args below meth c s.heap [] 0 0 (vx_MQ below Qc XC args s mc ms free) (entryFrame m args maxL)) : vx_Met l y ws rm Pc Qc XC mc ms free := by
  refine MetFree.of_bodyS (code := cc) (maxLocals := maxL) (ret := ret) hy ?_ ?_
  · intro args s m h hn
    obtain ⟨m9, meth, c, hn9, h1, h2, h3, h4, -, h5, h6, -⟩ := Cond.codeWith_spec (atoms_spec (ws := ws) h _ (by rw [hw]; exact List.mem_cons_self))
    cases hn.symm.trans hn9
    exact ⟨meth, c, h1, h2, h3, h4, h5, h6⟩
  · intro p e s m args below meth c s₁ B hml hP _
    have hh0 : s₁.heap = s.heap := by rw [B.state]; rfl
    obtain ⟨t, a1, o, b1, b2, b3⟩ := body p e s m args below meth c s₁ B hml hP s₁ hh0 (Stand.of_body B)
    exact ⟨t, o, a1, b1, b2, b3⟩
/-! C contracts -/
abbrev PostC : Type := Option Value → MI → MR → MK → Nat → Prop
abbrev PsiC : Type := String → Nat → MI → MR → MK → Nat → Prop
def QC (post : PostC) (w : CD) : Array Value → State → Outcome → State → Prop := fun _ st oc tt => (∃ v I R K nx, oc = .returned v ∧ post v I R K nx ∧ RepC w I R K nx tt.heap) ∧ va_F (Ac w) st tt
def XC_ (Ψ : PsiC) (w : CD) : Nat → String → State → State → Prop := fun q E st tt => (∃ I R K nx, Ψ E (q + 1) I R K nx ∧ RepC w I R K nx tt.heap) ∧ va_F (Ac w) st tt
abbrev cRm (fr mc lo : Nat) : Room := { frames := fr, cells := mc, slots := 24 * mc, locals := lo }
def PC (av : List Value) (w : CD) (I : MI) (R : MR) (K : MK) (nx : Nat) : Array Value → State → Prop := va_Pc av (fun U => RepC w I R K nx U.heap ∧ WC w U)
def MetC (l : Launch) (y : MethodName) (cc : ByteArray) (nL : Nat) (ret : Option FieldType) (fr mc lo : Nat) (av : List Value) (w : CD) (I : MI) (R : MR) (K : MK) (nx : Nat) (post : PostC) (Ψ : PsiC) : Prop :=
  vx_Met l y (ws_ y cc nL ret) (cRm fr mc lo) (PC av w I R K nx) (QC post w) (XC_ Ψ w) mc (24 * mc) (Ac w)
def CQ (g : Gm) (w : CD) (mc : Nat) (post : PostC) (Ψ : PsiC) : State → Prop := vx_MQ (gb g) (QC post w) (XC_ Ψ w) (ga g) (gs g) mc (24 * mc) (Ac w)
/-- what a C method's body may use -/
def BdC (g : Gm) (w : CD) (cc : ByteArray) (nL : Nat) (own : String) (ret : Option FieldType) (fr mc lo : Nat) (hh : List (Nat × Nat × Nat × Nat)) : Prop :=
  CxH g cc nL own ∧ WC w (gs g) ∧ (gme g).sig.returnType = ret ∧ (gme g).locks = false ∧ (fr ≤ (gR g).frames ∧ lo ≤ (gR g).locals ∧ mc ≤ (gR g).cells ∧ 24 * mc ≤ (gR g).slots) ∧ (gc g).exceptionTable.toList = tableOf hh ∧ g.2.1.stackTraces = false ∧ ∀ q : Nat, q < cz w → (gs g).heap[q]? = (cH w)[q]?
def cnI (Φ : Int32 → MI → MR → MK → Nat → Prop) : PostC := fun v I R K nx => ∃ r, v = some (.int r) ∧ Φ r I R K nx
def cnZ (Φ : Int32 → MI → MR → MK → Nat → Prop) : PostC := fun v I R K nx => ∃ r, v = some (.int r) ∧ (r = 0 ∨ r = 1) ∧ Φ r I R K nx
def cnL (Φ : Int64 → MI → MR → MK → Nat → Prop) : PostC := fun v I R K nx => ∃ r, v = some (.long r) ∧ Φ r I R K nx
def cnR (Φ : Nat → MI → MR → MK → Nat → Prop) : PostC := fun v I R K nx => ∃ r, v = some (rv r) ∧ Φ r I R K nx
def cnV (Φ : MI → MR → MK → Nat → Prop) : PostC := fun v I R K nx => v = none ∧ Φ I R K nx
theorem mc_of {l : Launch} (hlt : l.stackTraces = false) {y : MethodName} {cc : ByteArray} {nL : Nat} {own : String} {ret : Option FieldType} {fr mc lo : Nat} {av : List Value} {w : CD} {I : MI} {R : MR} {K : MK} {nx : Nat} {post : PostC} {Ψ : PsiC}
    (hy : plainName y.cls = true) (hc : y.cls = own) (hlen : (lg_sl av).length ≤ nL)
    (body : ∀ g : Gm, (gme g).name = y.name → BdC g w cc nL own ret fr mc lo [] → GJ g nL (CP w I R K nx (gs g).heap) 0 (CQ g w mc post Ψ) 0 (lv_args 0 av) []) : MetC l y cc nL ret fr mc lo av w I R K nx post Ψ := by
  subst hc
  refine vx_ofW (cc := cc) (maxL := nL) (ret := ret) hy rfl ?_
  intro p e s m args below meth c s₁ B hml htab hv
  obtain ⟨rfl, hP, hK⟩ := hv
  have hts := atoms_spec (ws := ws_ y cc nL ret) B.pre
  have hts : ∀ w ∈ lw_all, w.before _ s = true := fun w h => hts w (List.mem_cons_of_mem _ h)
  have hown : s.vm.findClass y.cls = some m.cls := findClass_of_methodNamed B.named
  have h := body (p, l, e, (headSpec (ws_ y cc nL ret) (cRm fr mc lo)).room, s, m, av.toArray, below, meth, c) (name_of_methodNamed B.named B.method).1 ⟨⟨B.exec, B.bytes, hml, hown, hts⟩, hK, B.returns, B.notSynchronized, ⟨Nat.le_refl _, Nat.le_refl _, Nat.le_refl _, Nat.le_refl _⟩, List.eq_nil_iff_forall_not_mem.mpr (fun x hx => htab x hx), hlt, hP.2.2.2.1⟩
  rw [lg_entry_eq]
  exact h s.heap [] _ ⟨hP, va_S.rf⟩ (lv_entry av hlen)
section CEND
variable {g : Gm} {cc : ByteArray} {nL : Nat} {own : String} {pc : Nat} {lc : List (Nat × Value)} {w : CD} {I : MI} {R : MR} {K : MK} {nx : Nat} {fr mc lo : Nat} {cu : Nat} {Ψ : PsiC} {rest : List Value} {hh : List (Nat × Nat × Nat × Nat)}
theorem gc_q {post : PostC} {v : Option Value} {H : Heap} {locs : List Loc} {s tt : State} (h : post v I R K nx) (hP : CP w I R K nx s.heap H locs) (ht : tt.heap = H) (a : Array Value) : QC post w a s (.returned v) tt :=
  ⟨⟨v, I, R, K, nx, rfl, h, by rw [ht]; exact hP.1⟩, va_S.F hP.2 ht⟩
theorem gc_iret (B : BdC g w cc nL own (some .int) fr mc lo hh) {Φ : Int32 → MI → MR → MK → Nat → Prop} {v : Int32} (hcu : cu ≤ mc) (hw : Φ v I R K nx) (dg : decode cc pc = .ok (.ireturn, 1)) : GJ g nL (CP w I R K nx (gs g).heap) cu (CQ g w mc (cnI Φ) Ψ) pc lc [.int v] :=
  gj_widen hcu (fun _ _ _ hP _ => vx_ret (W.iret B.1.1 B.1.2.1 B.2.2.1 (fun _ ht _ => gc_q ⟨v, rfl, hw⟩ hP ht _) hP.2.2.2 dg B.2.2.2.1))
theorem gc_nret {ty : FieldType} (B : BdC g w cc nL own (some ty) fr mc lo hh) {post : PostC} {v : Int32} (hn : narrow ty (.int v) = .int v) (hcu : cu ≤ mc) (hw : post (some (.int v)) I R K nx) (dg : decode cc pc = .ok (.ireturn, 1)) : GJ g nL (CP w I R K nx (gs g).heap) cu (CQ g w mc post Ψ) pc lc [.int v] :=
  gj_widen hcu (fun _ _ _ hP _ => vx_ret (W.zret B.1.1 B.1.2.1 B.2.2.1 hn (fun _ ht _ => gc_q hw hP ht _) hP.2.2.2 dg B.2.2.2.1))
theorem gc_zret (B : BdC g w cc nL own (some .boolean) fr mc lo hh) {Φ : Int32 → MI → MR → MK → Nat → Prop} {v : Int32} (hcu : cu ≤ mc) (hv : v = 0 ∨ v = 1) (hw : Φ v I R K nx) (dg : decode cc pc = .ok (.ireturn, 1)) : GJ g nL (CP w I R K nx (gs g).heap) cu (CQ g w mc (cnZ Φ) Ψ) pc lc [.int v] :=
  gc_nret B (by rcases hv with rfl | rfl <;> rfl) hcu ⟨v, rfl, hv, hw⟩ dg
theorem gc_lret (B : BdC g w cc nL own (some .long) fr mc lo hh) {Φ : Int64 → MI → MR → MK → Nat → Prop} {v : Int64} (hcu : cu ≤ mc) (hw : Φ v I R K nx) (dg : decode cc pc = .ok (.lreturn, 1)) : GJ g nL (CP w I R K nx (gs g).heap) cu (CQ g w mc (cnL Φ) Ψ) pc lc [.long v] :=
  gj_widen hcu (fun _ _ _ hP _ => vx_ret (W.lret B.1.1 B.1.2.1 B.2.2.1 (fun _ ht _ => gc_q ⟨v, rfl, hw⟩ hP ht _) hP.2.2.2 dg B.2.2.2.1))
theorem gc_vret (B : BdC g w cc nL own none fr mc lo hh) {Φ : MI → MR → MK → Nat → Prop} (hcu : cu ≤ mc) (hw : Φ I R K nx) (dg : decode cc pc = .ok (.return_, 1)) : GJ g nL (CP w I R K nx (gs g).heap) cu (CQ g w mc (cnV Φ) Ψ) pc lc [] :=
  gj_widen hcu (fun _ _ _ hP _ => vx_ret (W.vret B.1.1 B.1.2.1 B.2.2.1 (fun _ ht _ => gc_q ⟨rfl, hw⟩ hP ht _) hP.2.2.2 dg B.2.2.2.1))
theorem gc_aret {rt : FieldType} (B : BdC g w cc nL own (some rt) fr mc lo hh) (hrt : (∃ n, rt = .object n) ∨ ∃ t, rt = .array t) {Φ : Nat → MI → MR → MK → Nat → Prop} {v : Nat} (hcu : cu ≤ mc) (hw : Φ v I R K nx) (dg : decode cc pc = .ok (.areturn, 1)) : GJ g nL (CP w I R K nx (gs g).heap) cu (CQ g w mc (cnR Φ) Ψ) pc lc [rv v] :=
  gj_widen hcu (fun _ _ _ hP _ => vx_ret (W.aret B.1.1 B.1.2.1 B.2.2.1 hrt (by cases v with | zero => exact Or.inl rfl | succ a => exact Or.inr ⟨a, rfl⟩) (fun _ ht _ => gc_q ⟨v, rfl, hw⟩ hP ht _) hP.2.2.2 dg B.2.2.2.1))
/-- an exception leaves the method -/
theorem gc_out {ret : Option FieldType} (B : BdC g w cc nL own ret fr mc lo hh) {post : PostC} (hcov : ∀ x ∈ tableOf hh, covers x pc = false) (hcu : cu ≤ mc) {E : String} {ce : Cell} {q : Addr} {H : Heap} {locs : List Loc} {ls : Array Slot} (hP : CP w I R K nx (gs g).heap H locs) (hw : Ψ E (q + 1) I R K nx) (hcell : H[q]? = some ce) (hv : ce.vm = .none) (hcl : (gs g).vm.findClass E = some ce.cls) :
    vx_W g.1 g.2.1 g.2.2.1 (gR g) (gs g) (gm g) (ga g) (gb g) (gme g) (gc g) H locs cu (24 * cu) (CQ g w mc post Ψ) (F0 (gm g) pc ls rest) q :=
  vx_out (fun x hx => hcov x (by rw [← B.2.2.2.2.2.1]; exact hx)) B.2.2.2.1 hcell hv hcl (fun t ht _ => ⟨⟨I, R, K, nx, hw, by rw [ht]; exact hP.1⟩, va_S.F hP.2 ht⟩) hP.2.2.2 hcu (by omega)
variable {Q : State → Prop} {H0 : Heap} {y : MethodName} {bytes : ByteArray} {maxL index n : Nat} {ret ret2 : Option FieldType} {fr2 mc2 lo2 : Nat} {As : List Value} {post2 : PostC} {Ψ2 : PsiC} {r : Nat}
theorem gc_pre {s : State} {H : Heap} {locs : List Loc} {H1 : Heap} (hW : WC w s) (hP : CP w I R K nx H1 H locs) {av : List Value} : PreS s H (PC av w I R K nx) av :=
  ⟨fun _ U _ _ q => ⟨q.1, q.2.1, WC.same (s := U) (U := U.calling _ _ _) rfl q.2.2⟩, fun _ hU hWm => ⟨rfl, by rw [hU]; exact hP.1, hW.warm hWm⟩⟩
/-- behind a call: it has returned, or thrown -/
theorem gc_after {s : State} {m : MethodId} {args : Array Value} {p : Program} {l : Launch} {e : Env} {Rm : Room} {below : List Frame} {meth : Method} {c : Code} {H : Heap} {locs : List Loc} {ls : Array Slot} {st0 : List Value} {a : Array Value} (hP : CP w I R K nx H0 H locs)
    (hr : vx_Run p l e Rm s m args below meth c H locs cu (24 * cu) mc2 (24 * mc2) (F0 m pc ls st0) rest (QC post2 w a) (XC_ Ψ2 w) (Ac w))
    (kx : ∀ (E : String) (ce : Cell) (q : Addr) I' R' K' nx' (H1 : Heap) (locs1 : List Loc), Ψ2 E (q + 1) I' R' K' nx' → CP w I' R' K' nx' H0 H1 locs1 → H1[q]? = some ce → ce.vm = .none → s.vm.findClass E = some ce.cls → vx_W p l e Rm s m args below meth c H1 locs1 (cu + mc2) (24 * (cu + mc2)) Q (F0 m pc ls rest) q)
    (kk : ∀ (v : Option Value) I' R' K' nx' (H1 : Heap) (locs1 : List Loc), post2 v I' R' K' nx' → CP w I' R' K' nx' H0 H1 locs1 → W p l e Rm s m args below meth c H1 locs1 (cu + mc2) (24 * (cu + mc2)) Q (F0 m (pc + 3) ls (v.toList ++ rest))) : W p l e Rm s m args below meth c H locs cu (24 * cu) Q (F0 m pc ls st0) := by
  have e24 : 24 * cu + 24 * mc2 = 24 * (cu + mc2) := by omega
  intro T hT X
  rcases hr T hT X with ⟨v, st₀, t, T', L, h0, X', hL, e1, e2, ⟨⟨v', I', R', K', nx', hv, hp, hR⟩, hF⟩, st⟩ | ⟨q, st₀, t, T', L, E, ce, h0, X', hL, e1, e2, ⟨⟨I', R', K', nx', hp, hR⟩, hF⟩, hce, hcv, hcl, st⟩
  · cases hv
    rw [e24] at X'
    obtain ⟨-, -, k3⟩ := vx_keep (A1 := Ac w) (A0 := Ac w) (H0 := H0) (free := Ac w) h0 e1 hP.2 (fun _ _ q => q) (fun _ q => q) hL hF
    obtain ⟨t2, a1, b1⟩ := kk v I' R' K' nx' T'.heap (locs ++ L) hp ⟨by rw [e1]; exact hR, k3⟩ T' rfl X'
    exact ⟨t2, st t2 a1, b1⟩
  · rw [e24] at X'
    obtain ⟨-, -, k3⟩ := vx_keep (A1 := Ac w) (A0 := Ac w) (H0 := H0) (free := Ac w) h0 e1 hP.2 (fun _ _ q => q) (fun _ q => q) hL hF
    obtain ⟨t2, a1, b1⟩ := kx E ce q I' R' K' nx' T'.heap (locs ++ L) hp ⟨by rw [e1]; exact hR, k3⟩ (by rw [e1]; exact hce) hcv hcl T' rfl X'
    exact ⟨t2, st.trans a1, b1⟩
theorem gc_after5 {s : State} {m : MethodId} {args : Array Value} {p : Program} {l : Launch} {e : Env} {Rm : Room} {below : List Frame} {meth : Method} {c : Code} {H : Heap} {locs : List Loc} {ls : Array Slot} {st0 : List Value} {a : Array Value} (hP : CP w I R K nx H0 H locs)
    (hr : vx_Run5 p l e Rm s m args below meth c H locs cu (24 * cu) mc2 (24 * mc2) (F0 m pc ls st0) rest (QC post2 w a) (XC_ Ψ2 w) (Ac w))
    (kx : ∀ (E : String) (ce : Cell) (q : Addr) I' R' K' nx' (H1 : Heap) (locs1 : List Loc), Ψ2 E (q + 1) I' R' K' nx' → CP w I' R' K' nx' H0 H1 locs1 → H1[q]? = some ce → ce.vm = .none → s.vm.findClass E = some ce.cls → vx_W p l e Rm s m args below meth c H1 locs1 (cu + mc2) (24 * (cu + mc2)) Q (F0 m pc ls rest) q)
    (kk : ∀ (v : Option Value) I' R' K' nx' (H1 : Heap) (locs1 : List Loc), post2 v I' R' K' nx' → CP w I' R' K' nx' H0 H1 locs1 → W p l e Rm s m args below meth c H1 locs1 (cu + mc2) (24 * (cu + mc2)) Q (F0 m (pc + 5) ls (v.toList ++ rest))) : W p l e Rm s m args below meth c H locs cu (24 * cu) Q (F0 m pc ls st0) := by
  have e24 : 24 * cu + 24 * mc2 = 24 * (cu + mc2) := by omega
  intro T hT X
  rcases hr T hT X with ⟨v, st₀, t, T', L, h0, X', hL, e1, e2, ⟨⟨v', I', R', K', nx', hv, hp, hR⟩, hF⟩, st⟩ | ⟨q, st₀, t, T', L, E, ce, h0, X', hL, e1, e2, ⟨⟨I', R', K', nx', hp, hR⟩, hF⟩, hce, hcv, hcl, st⟩
  · cases hv
    rw [e24] at X'
    obtain ⟨-, -, k3⟩ := vx_keep (A1 := Ac w) (A0 := Ac w) (H0 := H0) (free := Ac w) h0 e1 hP.2 (fun _ _ q => q) (fun _ q => q) hL hF
    obtain ⟨t2, a1, b1⟩ := kk v I' R' K' nx' T'.heap (locs ++ L) hp ⟨by rw [e1]; exact hR, k3⟩ T' rfl X'
    exact ⟨t2, st t2 a1, b1⟩
  · rw [e24] at X'
    obtain ⟨-, -, k3⟩ := vx_keep (A1 := Ac w) (A0 := Ac w) (H0 := H0) (free := Ac w) h0 e1 hP.2 (fun _ _ q => q) (fun _ q => q) hL hF
    obtain ⟨t2, a1, b1⟩ := kx E ce q I' R' K' nx' T'.heap (locs ++ L) hp ⟨by rw [e1]; exact hR, k3⟩ (by rw [e1]; exact hce) hcv hcl T' rfl X'
    exact ⟨t2, st.trans a1, b1⟩
/-- what a call owes of room, and of its name -/
def RmOk (g : Gm) (cu mc2 : Nat) (fr2 maxL lo2 : Nat) : Prop := (fr2 + 1 ≤ (gR g).frames ∧ 8 + (maxL + 11) + lo2 ≤ (gR g).locals) ∧ cu + mc2 ≤ (gR g).cells ∧ 24 * cu + 24 * mc2 ≤ (gR g).slots
theorem rmOk (B : BdC g w cc nL own ret fr mc lo hh) (hf : fr2 + 1 ≤ fr) (hlo : 8 + (maxL + 11) + lo2 ≤ lo) (hcu : cu + mc2 ≤ mc) : RmOk g cu mc2 fr2 maxL lo2 :=
  ⟨⟨Nat.le_trans hf B.2.2.2.2.1.1, Nat.le_trans hlo B.2.2.2.2.1.2.1⟩, by have := B.2.2.2.2.1.2.2.1; omega, by have := B.2.2.2.2.1.2.2.2; omega⟩
/-- where an exception out of a callee goes: on, out of this method -/
abbrev EscC (g : Gm) (w : CD) (nL : Nat) (H0 : Heap) (cu : Nat) (Q : State → Prop) (pc : Nat) (lc : List (Nat × Value)) (rest : List Value) (Ψ2 : PsiC) : Prop :=
  ∀ (E : String) (ce : Cell) (q : Addr) I' R' K' nx' (H1 : Heap) (locs1 : List Loc) (ls : Array Slot), lv_has ls nL lc → Ψ2 E (q + 1) I' R' K' nx' → CP w I' R' K' nx' H0 H1 locs1 → H1[q]? = some ce → ce.vm = .none → (gs g).vm.findClass E = some ce.cls → vx_W g.1 g.2.1 g.2.2.1 (gR g) (gs g) (gm g) (ga g) (gb g) (gme g) (gc g) H1 locs1 cu (24 * cu) Q (F0 (gm g) pc ls rest) q
theorem escOut (B : BdC g w cc nL own ret fr mc lo hh) {post : PostC} (hcov : ∀ x ∈ tableOf hh, covers x pc = false) (hcu : cu ≤ mc) : EscC g w nL (gs g).heap cu (CQ g w mc post Ψ) pc lc rest Ψ :=
  fun _ _ _ _ _ _ _ _ _ _ _ hp hP h1 h2 h3 => gc_out B hcov hcu hP hp h1 h2 h3
theorem gc_callV (C : CxH g cc nL own) (hWC : WC w (gs g)) (hM : MetC g.2.1 y bytes maxL ret2 fr2 mc2 lo2 (rv (r + 1) :: As) w I R K nx post2 Ψ2) (hR : RmOk g cu mc2 fr2 maxL lo2) {Cn : String} (hG : GoodIn lw_all (wsV own index Cn y (ws_ y bytes maxL ret2)))
    (hd : y.cls = Cn ∧ y.cls ≠ "java/lang/invoke/MethodHandle" ∧ y.cls ≠ "java/lang/invoke/VarHandle" ∧ (parseMethodDescriptor y.desc).map (fun d => d.parameters.length) = some n) (hn : As.length = n)
    (hrc : ∀ H : Heap, RepC w I R K nx H → ∃ cell : Cell, H[r]? = some cell ∧ cell.vm.isStatics = false ∧ (gs g).vm.findClass Cn = some cell.cls) {stk : List Value} (hstk : stk = As.reverse ++ rv (r + 1) :: rest) (hrest : (rest.map fun v => v.category).sum ≤ 8) (dg : decode cc pc = .ok (.invokevirtual index, 3))
    (kx : EscC g w nL H0 (cu + mc2) Q pc lc rest Ψ2)
    (k : ∀ (v : Option Value) I' R' K' nx', post2 v I' R' K' nx' → GJ g nL (CP w I' R' K' nx' H0) (cu + mc2) Q (pc + 3) lc (v.toList ++ rest)) : GJ g nL (CP w I R K nx H0) cu Q pc lc stk := by
  subst hstk
  intro H locs ls hP hl
  exact gc_after hP (vx_runV (As := As) (rest := rest) C hM (cwV n C.2.2.2.2 hG rfl rfl rfl hd hR.1) ⟨(gc_pre hWC hP (av := rv (r + 1) :: As)).1, hrc H hP.1, (gc_pre hWC hP (av := rv (r + 1) :: As)).2⟩ rfl hn hl.1 rfl (lv_room hrest) dg hR.2) (fun E ce q I' R' K' nx' H1 locs1 hp hP' h1 h2 h3 => kx E ce q I' R' K' nx' H1 locs1 ls hl hp hP' h1 h2 h3) (fun v I' R' K' nx' H1 locs1 hp hP' => k v I' R' K' nx' hp H1 locs1 ls hP' hl)
theorem gc_callS (C : CxH g cc nL own) (hWC : WC w (gs g)) (hM : MetC g.2.1 y bytes maxL ret2 fr2 mc2 lo2 As w I R K nx post2 Ψ2) (hR : RmOk g cu mc2 fr2 maxL lo2) (hG : GoodIn lw_all (va_wsS own index y (ws_ y bytes maxL ret2)))
    (hd : y.cls ≠ "java/lang/invoke/MethodHandle" ∧ y.cls ≠ "java/lang/invoke/VarHandle" ∧ (parseMethodDescriptor y.desc).map (fun d => d.parameters.length) = some n) (hn : As.length = n)
    {stk : List Value} (hstk : stk = As.reverse ++ rest) (hrest : (rest.map fun v => v.category).sum ≤ 8) (dg : decode cc pc = .ok (.invokestatic index, 3))
    (kx : EscC g w nL H0 (cu + mc2) Q pc lc rest Ψ2)
    (k : ∀ (v : Option Value) I' R' K' nx', post2 v I' R' K' nx' → GJ g nL (CP w I' R' K' nx' H0) (cu + mc2) Q (pc + 3) lc (v.toList ++ rest)) : GJ g nL (CP w I R K nx H0) cu Q pc lc stk := by
  subst hstk
  intro H locs ls hP hl
  exact gc_after hP (vx_runS (As := As) (rest := rest) C hM (va_cwS n C.2.2.2.2 hG rfl rfl rfl hd hR.1) (gc_pre hWC hP) rfl hn hl.1 rfl (lv_room hrest) dg hR.2) (fun E ce q I' R' K' nx' H1 locs1 hp hP' h1 h2 h3 => kx E ce q I' R' K' nx' H1 locs1 ls hl hp hP' h1 h2 h3) (fun v I' R' K' nx' H1 locs1 hp hP' => k v I' R' K' nx' hp H1 locs1 ls hP' hl)
theorem gc_callI (C : CxH g cc nL own) (hWC : WC w (gs g)) (hM : MetC g.2.1 y bytes maxL none fr2 mc2 lo2 (rv (r + 1) :: As) w I R K nx post2 Ψ2) (hR : RmOk g cu mc2 fr2 maxL lo2) (hq : Cond.methodLink own index y ∈ lw_all) (hG : Cond.code y bytes maxL none ∈ lw_all) (hini : Cond.initialized y.cls ∈ lw_all) (hin : Cond.instanceMethod y ∈ lw_all) (hy1 : y.name = "<init>")
    (hd : y.cls ≠ "java/lang/invoke/MethodHandle" ∧ y.cls ≠ "java/lang/invoke/VarHandle" ∧ (parseMethodDescriptor y.desc).map (fun d => d.parameters.length) = some n) (hn : As.length = n)
    {stk : List Value} (hstk : stk = As.reverse ++ rv (r + 1) :: rest) (hrest : (rest.map fun v => v.category).sum ≤ 8) (dg : decode cc pc = .ok (.invokespecial index, 3))
    (kx : EscC g w nL H0 (cu + mc2) Q pc lc rest Ψ2)
    (k : ∀ (v : Option Value) I' R' K' nx', post2 v I' R' K' nx' → GJ g nL (CP w I' R' K' nx' H0) (cu + mc2) Q (pc + 3) lc (v.toList ++ rest)) : GJ g nL (CP w I R K nx H0) cu Q pc lc stk := by
  subst hstk
  intro H locs ls hP hl
  exact gc_after hP (vx_runI (As := As) (rest := rest) C hM (cwI n C.2.2.2.2 (lw_meth hG) rfl rfl rfl (C.2.2.2.2 _ hini) (C.2.2.2.2 _ hq) (C.2.2.2.2 _ hin) hy1 hd hR.1) (gc_pre hWC hP) rfl hn hl.1 rfl (lv_room hrest) dg hR.2) (fun E ce q I' R' K' nx' H1 locs1 hp hP' h1 h2 h3 => kx E ce q I' R' K' nx' H1 locs1 ls hl hp hP' h1 h2 h3) (fun v I' R' K' nx' H1 locs1 hp hP' => k v I' R' K' nx' hp H1 locs1 ls hP' hl)
theorem gc_callVN (C : CxH g cc nL own) (hWC : WC w (gs g)) (hM : MetC g.2.1 y bytes maxL ret2 fr2 mc2 lo2 (rv (r + 1) :: As) w I R K nx post2 Ψ2) (hR : RmOk g cu mc2 fr2 maxL lo2) {Cn host : String} (hq : Cond.methodLinkNest own index y host ∈ lw_tbl) (hG : Cond.code y bytes maxL ret2 ∈ lw_all) (hini : Cond.initialized y.cls ∈ lw_all) (hin : Cond.instanceMethod y ∈ lw_all) (hsel : Cond.selects Cn y y ∈ lw_all)
    (hd : y.cls ≠ "java/lang/invoke/MethodHandle" ∧ y.cls ≠ "java/lang/invoke/VarHandle" ∧ (parseMethodDescriptor y.desc).map (fun d => d.parameters.length) = some n) (hn : As.length = n)
    (hrc : ∀ H : Heap, RepC w I R K nx H → ∃ cell : Cell, H[r]? = some cell ∧ cell.vm.isStatics = false ∧ (gs g).vm.findClass Cn = some cell.cls) {stk : List Value} (hstk : stk = As.reverse ++ rv (r + 1) :: rest) (hrest : (rest.map fun v => v.category).sum ≤ 8) (dg : decode cc pc = .ok (.invokevirtual index, 3))
    (kx : EscC g w nL H0 (cu + mc2) Q pc lc rest Ψ2)
    (k : ∀ (v : Option Value) I' R' K' nx', post2 v I' R' K' nx' → GJ g nL (CP w I' R' K' nx' H0) (cu + mc2) Q (pc + 3) lc (v.toList ++ rest)) : GJ g nL (CP w I R K nx H0) cu Q pc lc stk := by
  subst hstk
  intro H locs ls hP hl
  exact gc_after hP (vx_runVN (C := Cn) (As := As) (rest := rest) C hM ⟨va_cnB n C.2.2.2.2 (lw_meth hG) rfl rfl rfl (hWC.2.1 _ hq rfl) (C.2.2.2.2 _ hini) hd hR.1, C.2.2.2.2 _ hin, C.2.2.2.2 _ hsel⟩ ⟨(gc_pre hWC hP (av := rv (r + 1) :: As)).1, hrc H hP.1, (gc_pre hWC hP (av := rv (r + 1) :: As)).2⟩ rfl hn hl.1 rfl (lv_room hrest) dg hR.2) (fun E ce q I' R' K' nx' H1 locs1 hp hP' h1 h2 h3 => kx E ce q I' R' K' nx' H1 locs1 ls hl hp hP' h1 h2 h3) (fun v I' R' K' nx' H1 locs1 hp hP' => k v I' R' K' nx' hp H1 locs1 ls hP' hl)
theorem gc_callSN (C : CxH g cc nL own) (hWC : WC w (gs g)) (hM : MetC g.2.1 y bytes maxL ret2 fr2 mc2 lo2 As w I R K nx post2 Ψ2) (hR : RmOk g cu mc2 fr2 maxL lo2) {host : String} (hq : Cond.methodLinkNest own index y host ∈ lw_tbl) (hG : Cond.code y bytes maxL ret2 ∈ lw_all) (hini : Cond.initialized y.cls ∈ lw_all) (hst : Cond.static y ∈ lw_all)
    (hd : y.cls ≠ "java/lang/invoke/MethodHandle" ∧ y.cls ≠ "java/lang/invoke/VarHandle" ∧ (parseMethodDescriptor y.desc).map (fun d => d.parameters.length) = some n) (hn : As.length = n)
    {stk : List Value} (hstk : stk = As.reverse ++ rest) (hrest : (rest.map fun v => v.category).sum ≤ 8) (dg : decode cc pc = .ok (.invokestatic index, 3))
    (kx : EscC g w nL H0 (cu + mc2) Q pc lc rest Ψ2)
    (k : ∀ (v : Option Value) I' R' K' nx', post2 v I' R' K' nx' → GJ g nL (CP w I' R' K' nx' H0) (cu + mc2) Q (pc + 3) lc (v.toList ++ rest)) : GJ g nL (CP w I R K nx H0) cu Q pc lc stk := by
  subst hstk
  intro H locs ls hP hl
  exact gc_after hP (vx_runSN (As := As) (rest := rest) C hM ⟨va_cnB n C.2.2.2.2 (lw_meth hG) rfl rfl rfl (hWC.2.1 _ hq rfl) (C.2.2.2.2 _ hini) hd hR.1, C.2.2.2.2 _ hst, trivial⟩ (gc_pre hWC hP) rfl hn hl.1 rfl (lv_room hrest) dg hR.2) (fun E ce q I' R' K' nx' H1 locs1 hp hP' h1 h2 h3 => kx E ce q I' R' K' nx' H1 locs1 ls hl hp hP' h1 h2 h3) (fun v I' R' K' nx' H1 locs1 hp hP' => k v I' R' K' nx' hp H1 locs1 ls hP' hl)
theorem gc_callIN (C : CxH g cc nL own) (hWC : WC w (gs g)) (hM : MetC g.2.1 y bytes maxL none fr2 mc2 lo2 (rv (r + 1) :: As) w I R K nx post2 Ψ2) (hR : RmOk g cu mc2 fr2 maxL lo2) {host : String} (hq : Cond.methodLinkNest own index y host ∈ lw_tbl) (hG : Cond.code y bytes maxL none ∈ lw_all) (hini : Cond.initialized y.cls ∈ lw_all) (hin : Cond.instanceMethod y ∈ lw_all) (hy1 : y.name = "<init>")
    (hd : y.cls ≠ "java/lang/invoke/MethodHandle" ∧ y.cls ≠ "java/lang/invoke/VarHandle" ∧ (parseMethodDescriptor y.desc).map (fun d => d.parameters.length) = some n) (hn : As.length = n)
    {stk : List Value} (hstk : stk = As.reverse ++ rv (r + 1) :: rest) (hrest : (rest.map fun v => v.category).sum ≤ 8) (dg : decode cc pc = .ok (.invokespecial index, 3))
    (kx : EscC g w nL H0 (cu + mc2) Q pc lc rest Ψ2)
    (k : ∀ (v : Option Value) I' R' K' nx', post2 v I' R' K' nx' → GJ g nL (CP w I' R' K' nx' H0) (cu + mc2) Q (pc + 3) lc (v.toList ++ rest)) : GJ g nL (CP w I R K nx H0) cu Q pc lc stk := by
  subst hstk
  intro H locs ls hP hl
  exact gc_after hP (vx_runIN (As := As) (rest := rest) C hM ⟨va_cnB n C.2.2.2.2 (lw_meth hG) rfl rfl rfl (hWC.2.1 _ hq rfl) (C.2.2.2.2 _ hini) hd hR.1, hy1, C.2.2.2.2 _ hin⟩ (gc_pre hWC hP) rfl hn hl.1 rfl (lv_room hrest) dg hR.2) (fun E ce q I' R' K' nx' H1 locs1 hp hP' h1 h2 h3 => kx E ce q I' R' K' nx' H1 locs1 ls hl hp hP' h1 h2 h3) (fun v I' R' K' nx' H1 locs1 hp hP' => k v I' R' K' nx' hp H1 locs1 ls hP' hl)
/-- by an interface: the receiver is a list -/
theorem gc_callF {x : MethodName} {count : Nat} (C : CxH g cc nL own) (hWC : WC w (gs g)) (hM : MetC g.2.1 y bytes maxL ret2 fr2 mc2 lo2 (rv (r + 1) :: As) w I R K nx post2 Ψ2) (hR : RmOk g cu mc2 fr2 maxL lo2) (hq : Cond.methodLink own index x ∈ lw_all) (hsel : Cond.selects RJ2 x y ∈ lw_all) (hG : Cond.code y bytes maxL ret2 ∈ lw_all) (hini : Cond.initialized y.cls ∈ lw_all) (hin : Cond.instanceMethod y ∈ lw_all)
    (f1 : Cond.declares x ∈ lw_tbl) (f2 : Cond.interfaceMethod x.cls x.cls x.name x.desc ∈ lw_tbl) (f2b : bk (Cond.interfaceMethod x.cls x.cls x.name x.desc) = true) (f3 : Cond.publicMethod y ∈ lw_tbl) (f4 : Cond.unhidden RJ2 x.name x.desc ∈ lw_tbl) (f5 : Cond.castable RJ2 x.cls ∈ lw_tbl)
    (hd : x.cls ≠ "java/lang/invoke/MethodHandle" ∧ x.cls ≠ "java/lang/invoke/VarHandle" ∧ (parseMethodDescriptor x.desc).map (fun d => d.parameters.length) = some n) (hn : As.length = n)
    (hr : (K (r + 1)).1 = 10) {stk : List Value} (hstk : stk = As.reverse ++ rv (r + 1) :: rest) (hrest : (rest.map fun v => v.category).sum ≤ 8) (dg : decode cc pc = .ok (.invokeinterface index count, 5))
    (kx : EscC g w nL H0 (cu + mc2) Q pc lc rest Ψ2)
    (k : ∀ (v : Option Value) I' R' K' nx', post2 v I' R' K' nx' → GJ g nL (CP w I' R' K' nx' H0) (cu + mc2) Q (pc + 5) lc (v.toList ++ rest)) : GJ g nL (CP w I R K nx H0) cu Q pc lc stk := by
  subst hstk
  intro H locs ls hP hl
  have hF : va_Fw RJ2 x y (gs g) := ⟨hWC.2.1 _ f1 rfl, hWC.2.1 _ f2 f2b, hWC.2.1 _ f3 rfl, hWC.2.1 _ f4 rfl, hWC.2.1 _ f5 rfl⟩
  have hGI : GoodIn lw_all (va_wsF own index RJ2 x y (ws_ y bytes maxL ret2)) := by
    refine lw_app ?_ (lw_meth hG)
    intro z hz
    simp only [List.mem_cons, List.not_mem_nil, or_false] at hz
    rcases hz with e | e | e | e
    · rw [e]; exact hq
    · rw [e]; exact hsel
    · rw [e]; exact hin
    · rw [e]; exact hini
  exact gc_after5 hP (vx_runF (As := As) (rest := rest) (hWC.1.1 9 _ rfl).2 C hM (va_cwF n C.2.2.2.2 hGI rfl rfl rfl hF hd hR.1) ⟨(gc_pre hWC hP (av := rv (r + 1) :: As)).1, gc_recv hWC.1 hP.1 hr (q := (RJ2, TJ2, 3)) rfl, (gc_pre hWC hP (av := rv (r + 1) :: As)).2⟩ rfl hn hl.1 rfl (lv_room hrest) dg hR.2) (fun E ce q I' R' K' nx' H1 locs1 hp hP' h1 h2 h3 => kx E ce q I' R' K' nx' H1 locs1 ls hl hp hP' h1 h2 h3) (fun v I' R' K' nx' H1 locs1 hp hP' => k v I' R' K' nx' hp H1 locs1 ls hP' hl)
end CEND
section CAUX
variable {g : Gm} {cc : ByteArray} {nL : Nat} {own : String} {pc : Nat} {lc : List (Nat × Value)} {w : CD} {I : MI} {R : MR} {K : MK} {nx : Nat} {fr mc lo : Nat} {cu : Nat} {Ψ : PsiC} {rest : List Value} {H0 : Heap} {Q : State → Prop} {ret : Option FieldType} {hh : List (Nat × Nat × Nat × Nat)}
theorem gc_nmI (k : ∀ I', I' = I → GJ g nL (CP w I' R K nx H0) cu Q pc lc rest) : GJ g nL (CP w I R K nx H0) cu Q pc lc rest := k I rfl
theorem gc_nmR (k : ∀ R', R' = R → GJ g nL (CP w I R' K nx H0) cu Q pc lc rest) : GJ g nL (CP w I R K nx H0) cu Q pc lc rest := k R rfl
theorem gc_nmK (k : ∀ K', K' = K → GJ g nL (CP w I R K' nx H0) cu Q pc lc rest) : GJ g nL (CP w I R K nx H0) cu Q pc lc rest := k K rfl
def cnN (ty : FieldType) (Φ : Int32 → MI → MR → MK → Nat → Prop) : PostC := fun v I R K nx => ∃ r, v = some (.int r) ∧ narrow ty (.int r) = .int r ∧ Φ r I R K nx
theorem rmA (B : BdC g w cc nL own ret fr mc lo hh) {n : Nat} (h : n ≤ mc) : n ≤ (gR g).cells ∧ 24 * n ≤ (gR g).slots := ⟨Nat.le_trans h B.2.2.2.2.1.2.2.1, by have := B.2.2.2.2.1.2.2.2; omega⟩
theorem rmF (B : BdC g w cc nL own ret fr mc lo hh) {n k : Nat} (h : n ≤ fr) (h2 : k ≤ lo) : n ≤ (gR g).frames ∧ k ≤ (gR g).locals := ⟨Nat.le_trans h B.2.2.2.2.1.1, Nat.le_trans h2 B.2.2.2.2.1.2.1⟩
theorem rmOk0 {fr2 mc2 lo2 maxL : Nat} (B : BdC g w cc nL own ret fr mc lo hh) (hf : fr2 + 1 ≤ fr) (hlo : 8 + (maxL + 11) + lo2 ≤ lo) (hcu : cu + mc2 ≤ mc) : RmOk g cu mc2 fr2 maxL lo2 := rmOk B hf hlo hcu
/-- a list's element is stored: a lodger or a loan -/
theorem gc_aastL (C : CxH g cc nL own) (hW : WC w (gs g)) {r v : Nat} {i : Int32} (hr : (K r).1 = 23) (hin : vp_in i (K r).2) (hv : (K v).1 = 3 ∨ (K v).1 = 4) (dg : decode cc pc = .ok (.aastore, 1))
    (kk : GJ g nL (CP w I (u2 R r i.toNatClampNeg v) K nx H0) cu Q (pc + 1) lc rest) : GJ g nL (CP w I R K nx H0) cu Q pc lc (rv v :: .int i :: rv r :: rest) :=
  hv.elim (fun h => gc_aast C hW.1 hr hin (c := 2) (q := (RX6, TX6, 3)) h rfl (hW.2.1 _ q1791 rfl) dg kk) (fun h => gc_aast C hW.1 hr hin (c := 3) (q := (RX7, TX7, 3)) h rfl (hW.2.1 _ q1793 rfl) dg kk)
/-- 'throw w' of a Wrong -/
theorem gc_athrow (B : BdC g w cc nL own ret fr mc lo hh) {post : PostC} {r : Nat} (hcov : ∀ x ∈ tableOf hh, covers x pc = false) (hcu : cu ≤ mc) (hr : (K r).1 = 9) (hw : Ψ "ShoeHouse$Wrong" r I R K nx) (dg : decode cc pc = .ok (.athrow, 1)) : GJ g nL (CP w I R K nx (gs g).heap) cu (CQ g w mc post Ψ) pc lc (rv r :: rest) := by
  intro H locs ls hP hl
  obtain ⟨a, rfl⟩ := repC_succ (r := r) hP.1 (by rw [hr]; decide)
  obtain ⟨-, cell, q1, q2, q3, -⟩ := hP.1.2.2.2.2.1 a 8 (RX5, TX5, 7) hr rfl
  exact vx_athrow B.1.1 B.1.2.1 dg (gc_out B hcov hcu hP hw q1 q3 (by rw [q2]; exact (B.2.1.1.1 8 _ rfl).2.1))
/-- the receiver of a String's method -/
theorem gs_recv {s : State} (hW : WC w s) {i : Nat} (hi : i < 14) {H : Heap} (hP : RepC w I R K nx H) : ∃ cell : Cell, H[cSK w i]? = some cell ∧ cell.vm.isStatics = false ∧ s.vm.findClass "java/lang/String" = some cell.cls := by
  obtain ⟨cell, h1, h2, h3, -⟩ := (hW.2.2.2.2.2.2.2.1.1 i hi).1.kept (repC_old hP)
  exact ⟨cell, h1, h2, h3⟩
/-- an array of Objects, ours or an empty one of the JDK's: its cell -/
theorem gc_arrO {s : State} (hW : WC w s) {r : Nat} (hr : (K r).1 = 23 ∨ (K r).1 = 26) {H : Heap} (hP : RepC w I R K nx H) : ∃ (a : Nat) (cell : Cell), r = a + 1 ∧ H[a]? = some cell ∧ s.isArrayOf cell (.object "java/lang/Object") ∧ cell.vm ≠ .unknown ∧ cell.vm.isStatics = false ∧ s.vm.findClass "[Ljava/lang/Object;" = some cell.cls ∧ (K r).2 ≤ cell.slots.size ∧ ∀ j : Nat, j < (K r).2 → cell.slots[j]? = some (rv (R r j)) := by
  obtain ⟨a, rfl⟩ := repC_succ (r := r) hP (by omega)
  rcases hr with hr | hr
  · have h := (hP.2.2.2.2.2.1 a (by omega) (by omega)).2
    unfold arrC at h
    rw [hr] at h
    refine ⟨a, _, rfl, h, (hW.1.2.1 23 (by omega) (by omega)).1 _ _, fun q => (by cases q), rfl, (hW.1.2.1 23 (by omega) (by omega)).2, ?_, fun j hj => ?_⟩
    · rw [arrV_size]; exact Nat.le_refl _
    · rw [arrV_read _ _ hj]; rfl
  · obtain ⟨e0, he⟩ := hP.2.2.2.2.2.2 a hr
    obtain ⟨hT, hO⟩ := hW.2.2.2.2.2.2.2.2.2.2.2.2.2.2.2.1 a he
    obtain ⟨cell, h1, h2, h3, h4, h5, h6, h7⟩ := hT.kept (repC_old hP)
    obtain ⟨cell2, g1, g2, g3, -⟩ := hO.kept (repC_old hP)
    cases h1.symm.trans g1
    exact ⟨a, cell, rfl, h1, h2, h3, g2, g3, by omega, fun j hj => by omega⟩
theorem gc_getC (C : CxH g cc nL "java/util/Arrays") (hW : WC w (gs g)) (hR : 1 ≤ (gR g).frames ∧ 40 ≤ (gR g).locals) {r : Nat} (hr : (K r).1 = 23 ∨ (K r).1 = 26) (hrest : (rest.map fun v => v.category).sum ≤ 8) (dg : decode cc pc = .ok (.invokevirtual 86, 3))
    (kk : GJ g nL (CP w I R K nx H0) cu Q (pc + 3) lc (rv (cM1 w + 1) :: rest)) : GJ g nL (CP w I R K nx H0) cu Q pc lc (rv r :: rest) := by
  intro H locs ls hP hl
  have k := kk H locs ls hP hl
  obtain ⟨a, cell, rfl, h1, h2, h3, h4, h5, -⟩ := gc_arrO hW hr hP.1
  exact va_getC C.1 C.2.1 (by rw [C.2.2.1]; exact hl.1.symm) C.2.2.2.1 (C.2.2.2.2 _ q441) ((hW.2.1 _ q471 rfl).useB rfl) (C.2.2.2.2 _ q1800) (C.2.2.2.2 _ q442) (C.2.2.2.2 _ q457) hW.2.2.2.2.2.2.1 ⟨cell, h1, h4, h5⟩ hR.1 (by omega) dg k
theorem gc_getCI (C : CxH g cc nL "java/util/ArrayList") (hW : WC w (gs g)) (hR : 1 ≤ (gR g).frames ∧ 40 ≤ (gR g).locals) {r count : Nat} (hr : (K r).1 = 10) (hrest : (rest.map fun v => v.category).sum ≤ 8) (dg : decode cc pc = .ok (.invokeinterface 52 count, 5))
    (kk : GJ g nL (CP w I R K nx H0) cu Q (pc + 5) lc (rv (cM0 w + 1) :: rest)) : GJ g nL (CP w I R K nx H0) cu Q pc lc (rv r :: rest) := by
  intro H locs ls hP hl
  have k := kk H locs ls hP hl
  obtain ⟨a, rfl⟩ := repC_succ (r := r) hP.1 (by rw [hr]; decide)
  obtain ⟨cell, g1, g2, g3⟩ := gc_recv hW.1 hP.1 hr (q := (RJ2, TJ2, 3)) rfl
  obtain ⟨c0, k0, h1, h2, h3⟩ := hW.2.2.2.2.2.1
  cases h1.symm.trans g3
  have hsel : (Cond.selects "java/util/ArrayList" ⟨"java/util/Collection", "getClass", "()Ljava/lang/Class;"⟩ ⟨"java/lang/Object", "getClass", "()Ljava/lang/Class;"⟩).before (ga g) (gs g) = true := by
    obtain ⟨c1, r1, m1, e1, e2, e3, e4, mk, hmk, hi⟩ := Cond.selects_spec (C.2.2.2.2 _ q455)
    obtain ⟨c2, k2, m2, f1, f2, f3, f4, f5⟩ := Cond.interfaceMethod_spec (hW.2.1 _ q470 rfl)
    cases e3.symm.trans f5
    cases e2.symm.trans (State.methodFound?_of_named e3 ⟨by decide, by decide⟩)
    simp [Cond.before, Cond.holds, Cond.value, e1, f4, e3, e4, hmk, hi]
  intro T hT X
  obtain ⟨vm', X', st⟩ := X.getClassOfI C.1 C.2.2.2.1 (C.2.2.2.2 _ q469) ((hW.2.1 _ q471 rfl).useB rfl) ((hW.2.1 _ q470 rfl).useB rfl) hsel (C.2.2.2.2 _ q442) ((hW.2.1 _ q473 rfl).useB rfl) ((hW.2.1 _ q472 rfl).useB rfl) ((hW.2.1 _ q432 rfl).useB rfl) (C.2.2.2.2 _ q457) ⟨by decide, by decide⟩ (by decide) rfl rfl h1 h2 ⟨cell, by rw [hT]; exact g1, rfl, g2⟩ h3 (g := F0 (gm g) pc ls (.ref a :: rest)) rfl (by rw [C.2.2.1]; exact hl.1) (rest := rest) rfl (by rw [C.2.1]; exact dg) hR.1 (by show 2 * 0 + _ + _ ≤ _; have hw : nativeFrameWords "java/lang/Object" "getClass" 1 = 3 := (by decide); omega)
  obtain ⟨t, a1, b1⟩ := k (T.setVm vm') hT X'
  exact ⟨t, st t a1, b1⟩
/-- System.arraycopy of Objects -/
theorem gc_copy (C : CxH g cc nL own) (hW : WC w (gs g)) (hR : 1 ≤ (gR g).frames ∧ 40 ≤ (gR g).locals) {index : Nat} (hq : Cond.methodLink own index arraycopyName ∈ lw_all) {r v : Nat} {sp dp n : Int32} (h123 : ¬ sp < 0 ∧ ¬ dp < 0 ∧ ¬ n < 0) (hk : ((K r).1 = 23 ∨ (K r).1 = 26) ∧ (K v).1 = 23) (h45 : sp.toNatClampNeg + n.toNatClampNeg ≤ (K r).2 ∧ dp.toNatClampNeg + n.toNatClampNeg ≤ (K v).2)
    (hel : ∀ i : Nat, i < n.toNatClampNeg → R r (sp.toNatClampNeg + i) = 0 ∨ (K (R r (sp.toNatClampNeg + i))).1 = 3 ∨ (K (R r (sp.toNatClampNeg + i))).1 = 4) (hrest : (rest.map fun v => v.category).sum ≤ 8) (dg : decode cc pc = .ok (.invokestatic index, 3))
    (kk : GJ g nL (CP w I (u1 R v (va_cpy (R r) (R v) sp.toNatClampNeg dp.toNatClampNeg n.toNatClampNeg)) K nx H0) cu Q (pc + 3) lc rest) : GJ g nL (CP w I R K nx H0) cu Q pc lc (.int n :: .int dp :: rv v :: .int sp :: rv r :: rest) := by
  have nn : ∀ z : Int32, ¬ z < 0 → z.toInt = (z.toNatClampNeg : Int) := by
    intro z hz
    have hz0 : (0 : Int) ≤ z.toInt := by
      have := Int32.not_lt.mp hz
      simpa using Int32.le_iff_toInt_le.mp this
    show z.toInt = ((z.toInt.toNat : Nat) : Int)
    omega
  intro H locs ls hP hl
  obtain ⟨hP, hS0⟩ := hP
  obtain ⟨h1, h2, h3⟩ := h123
  obtain ⟨a0, cs, rfl, c1, ⟨co, k0, hk0, cm0, hkk0⟩, c3, c4, c5, c6, c7⟩ := gc_arrO hW hk.1 hP
  obtain ⟨a, rfl⟩ := repC_succ (r := v) hP (by omega)
  obtain ⟨hA, hd⟩ := hP.2.2.2.2.2.1 a (by omega) (by omega)
  unfold arrC at hd
  rw [hk.2] at hd
  obtain ⟨-, k1, hk1, cm1, hkk1⟩ := (hW.1.2.1 23 (by omega) (by omega)).1 (K (a + 1)).2 (fun j => aval 23 (I (a + 1) j) (R (a + 1) j))
  intro T hT X
  obtain ⟨vm', X', step⟩ := X.arraycopy C.1 C.2.2.2.1 (C.2.2.2.2 _ hq) (C.2.2.2.2 _ q317) (C.2.2.2.2 _ q316) (C.2.2.2.2 _ q113) (src := a0) (dst := a) (cs := cs) (cd := arrV (cA w 23) (K (a + 1)).2 (fun j => aval 23 (I (a + 1) j) (R (a + 1) j))) (srcPos := sp) (destPos := dp) (n := n) (by rw [hT]; exact c1) (by rw [hT]; exact hd)
    co (fun _ h => by cases h) c3 (fun h => by cases h) hk0 hk1 hkk0 hkk1 rfl h1 h2 h3
    (by rw [nn sp h1, nn n h3]; omega)
    (by rw [nn dp h2, nn n h3, arrV_size]; omega)
    (fun vm₁ hal i hi => by
      have e : cs.slots.getD (sp.toNatClampNeg + i) .null = rv (R (a0 + 1) (sp.toNatClampNeg + i)) := by
        rw [Array.getD_eq_getD_getElem?, c7 _ (by omega)]
        rfl
      rw [e]
      rcases Nat.eq_zero_or_pos (R (a0 + 1) (sp.toNatClampNeg + i)) with hz | hz
      · rw [hz]; exact ⟨rfl, trivial⟩
      · obtain ⟨y, hy⟩ : ∃ y, R (a0 + 1) (sp.toNatClampNeg + i) = y + 1 := ⟨_, (Nat.succ_pred_eq_of_pos hz).symm⟩
        have hel2 := hel i hi
        rw [hy] at hel2 ⊢
        obtain ⟨kA, comp, r1, r2, r3, -⟩ := hW.1.2.2
        cases hk1.symm.trans r1
        cases hkk1.symm.trans r2
        have hobj : ∃ (Cn : String) (cellV : Cell), va_Nw (.castable Cn "java/lang/Object") (gs g) ∧ H[y]? = some cellV ∧ cellV.vm.isStatics = false ∧ (gs g).vm.findClass Cn = some cellV.cls := by
          rcases hel2 with h | h | h
          · exact absurd h (Nat.succ_ne_zero y)
          · obtain ⟨cellV, g1, g2, g3⟩ := gc_recv hW.1 hP (a := y) (c := 2) (q := (RX6, TX6, 3)) h rfl
            exact ⟨_, cellV, hW.2.1 _ q1791 rfl, g1, g2, g3⟩
          · obtain ⟨cellV, g1, g2, g3⟩ := gc_recv hW.1 hP (a := y) (c := 3) (q := (RX7, TX7, 3)) h rfl
            exact ⟨_, cellV, hW.2.1 _ q1793 rfl, g1, g2, g3⟩
        obtain ⟨Cn, cellV, hca, g1, g2, g3⟩ := hobj
        have hasg := vb_asgC hca cm1 cellV.cls r3 g3
        obtain ⟨kC, hkC, -⟩ := Vm.findClass_spec g3
        obtain ⟨kE, hkE, -⟩ := Vm.findClass_spec r3
        obtain ⟨kC', hkC', -⟩ := hal.2.2 _ _ hkC
        obtain ⟨kE', hkE', -⟩ := hal.2.2 _ _ hkE
        refine ⟨rfl, cellV, (show T.heap[y]? = some cellV by rw [hT]; exact g1), (fun q h => by rw [h] at g2; cases g2), ⟨kC', hkC'⟩, ?_, ?_⟩
        · exact ⟨kE', hkE'⟩
        · show vm₁.assignable _ _ = true
          rw [hal.assignable]
          exact hasg)
    (g := F0 (gm g) pc ls (.int n :: .int dp :: rv (a + 1) :: .int sp :: rv (a0 + 1) :: rest)) rfl (by rw [C.2.2.1]; exact hl.1) (rest := rest) rfl (by rw [C.2.1]; exact dg) hR.1 (by show 2 * 0 + _ + _ ≤ _; have : nativeFrameWords "java/lang/System" "arraycopy" 5 ≤ 20 := (by decide); omega)
  have hc : copied cs (arrV (cA w 23) (K (a + 1)).2 (fun j => aval 23 (I (a + 1) j) (R (a + 1) j))) sp dp n = arrV (cA w 23) (K (a + 1)).2 (fun z => rv (va_cpy (R (a0 + 1)) (R (a + 1)) sp.toNatClampNeg dp.toNatClampNeg n.toNatClampNeg z)) :=
    va_copiedX (fun z => rv z) cs (cA w 23) (R (a0 + 1)) (R (a + 1)) (fun j hj => c7 j hj) h45.1
  rw [hc] at X' step
  have hl2 : a < H.size := (Array.getElem?_eq_some_iff.mp hd).1
  have hheap : ((T.setVm vm').setCell a (arrV (cA w 23) (K (a + 1)).2 (fun z => rv (va_cpy (R (a0 + 1)) (R (a + 1)) sp.toNatClampNeg dp.toNatClampNeg n.toNatClampNeg z)))).heap = H.setIfInBounds a (arrV (cA w 23) (K (a + 1)).2 (fun z => rv (va_cpy (R (a0 + 1)) (R (a + 1)) sp.toNatClampNeg dp.toNatClampNeg n.toNatClampNeg z))) := by rw [← hT]; rfl
  have oq : ∀ q : Nat, q ≠ a → (H.setIfInBounds a (arrV (cA w 23) (K (a + 1)).2 (fun z => rv (va_cpy (R (a0 + 1)) (R (a + 1)) sp.toNatClampNeg dp.toNatClampNeg n.toNatClampNeg z))))[q]? = H[q]? := fun q hq => by simp [Array.getElem?_setIfInBounds, Ne.symm hq]
  have e1 : (H.setIfInBounds a (arrV (cA w 23) (K (a + 1)).2 (fun z => rv (va_cpy (R (a0 + 1)) (R (a + 1)) sp.toNatClampNeg dp.toNatClampNeg n.toNatClampNeg z))))[a]? = some (arrV (cA w 23) (K (a + 1)).2 (fun z => rv (va_cpy (R (a0 + 1)) (R (a + 1)) sp.toNatClampNeg dp.toNatClampNeg n.toNatClampNeg z))) := by simp [Array.getElem?_setIfInBounds, hl2]
  have hR2 : RepC w I (u1 R (a + 1) (va_cpy (R (a0 + 1)) (R (a + 1)) sp.toNatClampNeg dp.toNatClampNeg n.toNatClampNeg)) K nx (H.setIfInBounds a (arrV (cA w 23) (K (a + 1)).2 (fun z => rv (va_cpy (R (a0 + 1)) (R (a + 1)) sp.toNatClampNeg dp.toNatClampNeg n.toNatClampNeg z)))) := by
    refine repC_upd hP hA (by simp) oq (fun _ _ => rfl) (fun b hb => u1_off hb) (fun c2 r2 h2 h3 => ?_) (fun _ _ => ?_)
    · have := kCl_len h3
      omega
    · unfold arrC
      rw [hk.2, e1, u1_on]
      rfl
  obtain ⟨t, a1, b1⟩ := kk _ _ ls ⟨hR2, ⟨by simp; exact hS0.1, fun q g1 g2 => by
      rw [oq q (fun e => g2 (by rw [e]; exact hA))]
      exact hS0.2.1 q g1 g2, fun q hq => by
      rcases List.mem_append.mp hq with h | h
      · exact hS0.2.2 q h
      · obtain ⟨z, -, hz⟩ := List.mem_map.mp h
        rw [← hz]
        exact hA⟩⟩ hl _ hheap X'
  exact ⟨t, step t a1, b1⟩
/-- the picture in a heap that has grown -/
theorem repC_grow {H H1 : Heap} (h : RepC w I R K nx H) (z : nx ≤ H1.size) (oq : ∀ q : Nat, q < nx → H1[q]? = H[q]?) : RepC w I R K H1.size H1 := by
  obtain ⟨h1, h2, h3, h4, h5, h6, h7⟩ := h
  refine ⟨rfl, h2, ⟨by omega, by omega⟩, fun q hq => (oq q (by omega)).trans (h4 q hq), fun b c r hb hr => ?_, fun b hb1 hb2 => ?_, h7⟩
  · obtain ⟨g1, g2⟩ := h5 b c r hb hr
    have hlt : b < nx := by
      obtain ⟨cell, q, -⟩ := g2
      rw [← h1]; exact (Array.getElem?_eq_some_iff.mp q).1
    exact ⟨g1, g2.kept (oq b hlt)⟩
  · obtain ⟨g1, g2⟩ := h6 b hb1 hb2
    have hlt : b < nx := by rw [← h1]; exact (Array.getElem?_eq_some_iff.mp g2).1
    exact ⟨g1, (oq b hlt).trans g2⟩
theorem gc_throw (B : BdC g w cc nL own ret fr mc lo []) {post : PostC} {E : String} {names : List String} {ik ic : Nat} (hcls : Bundle.fit E = true) (hnames : ∀ n ∈ names, Bundle.fit n = true) (hk : Cond.classLink own ik E ∈ lw_all) (hini : Cond.initialized E ∈ lw_all)
    (hat : ∀ x ∈ vx_at0 own ic E names, x ∈ lw_tbl ∧ (goodWord x = true ∨ bk x = true)) (hgk : goodWord (Cond.classLink own ik E) = true) (hgi : goodWord (Cond.initialized E) = true) (hf : names.length + 3 < fr) (hlo : 8 + (13 * (names.length + 1) + 42) ≤ lo) (hcu : cu + 1 ≤ mc) (hrest : (rest.map fun v => v.category).sum ≤ 8)
    (d0 : decode cc pc = .ok (.new ik, 3)) (d3 : decode cc (pc + 3) = .ok (.dup, 1)) (d4 : decode cc (pc + 4) = .ok (.invokespecial ic, 3)) (d7 : decode cc (pc + 7) = .ok (.athrow, 1)) (hw : ∀ q n1 : Nat, nx ≤ n1 → Ψ E q I R K n1) : GJ g nL (CP w I R K nx (gs g).heap) cu (CQ g w mc post Ψ) pc lc rest := by
  intro H locs ls hP hl
  obtain ⟨hR1, hR2, hR3, hR4⟩ := B.2.2.2.2.1
  refine vx_throw0 (names := names) (A := Ac w) B.1.1 B.1.2.1 B.2.2.2.2.2.2.1 B.1.2.2.2.1 hcls hnames (B.1.2.2.2.2 _ hk) (B.1.2.2.2.2 _ hini) (fun x hx => ?_) (fun x hx => ?_) ((B.2.1.2.2.2.2.2.2.2.2.2.2.2.1.kept (fun a _ h => B.2.2.2.2.2.2.2 a (Nat.not_le.mp h))).narrow cA_z) ((B.2.1.2.2.2.2.2.2.2.2.2.2.2.2.1.kept (fun a _ h => B.2.2.2.2.2.2.2 a (Nat.not_le.mp h))).narrow cA_z) hP.2 (by rw [B.1.2.2.1]; exact hl.1) d0 d3 d4 d7
    (fun x hx => by rw [B.2.2.2.2.2.1] at hx; cases hx) (by omega) (by omega) (by omega) (by omega) B.2.2.2.1 (fun t _ z oq => ?_) hP.2.2.2 hcu (by omega)
  · obtain ⟨h1, h2 | h2⟩ := hat x hx
    · exact B.1.2.2.2.2 _ (lw_g h1 h2)
    · exact (B.2.1.2.1 _ h1 h2).useB h2
  · rcases List.mem_cons.mp hx with rfl | hx
    · simp [vx_ot, hgk]
    rcases List.mem_cons.mp hx with rfl | hx
    · simp [vx_ot, hgi]
    obtain ⟨h1, h2 | h2⟩ := hat x hx
    · simp [vx_ot, h2]
    · simp [vx_ot, bk_tab h2]
  · have hz : nx ≤ t.heap.size := by rw [← hP.1.1]; exact z
    exact ⟨⟨I, R, K, _, hw _ _ hz, repC_grow hP.1 hz (fun q hq => oq q (by rw [hP.1.1]; exact hq))⟩, Nat.le_trans hP.2.1 z, fun q h1 h2 => (oq q (Nat.lt_of_lt_of_le h1 hP.2.1)).trans (hP.2.2.1 q h1 h2)⟩
theorem gc_at_ok (own : String) (ic : Nat) (E : String) (names : List String) (h : ((vx_at0 own ic E names).all fun x => decide (x ∈ lw_tbl) && (goodWord x || bk x)) = true) : ∀ x ∈ vx_at0 own ic E names, x ∈ lw_tbl ∧ (goodWord x = true ∨ bk x = true) := by
  intro x hx
  have := List.all_eq_true.mp h x hx
  simpa using this
theorem at_N : ((vx_at0 RX1 3 "java/util/NoSuchElementException" ["java/lang/RuntimeException", "java/lang/Exception"]).all fun x => decide (x ∈ lw_tbl) && (goodWord x || bk x)) = true := by decide +kernel
theorem at_A : ((vx_at0 RX1 9 "java/lang/IllegalArgumentException" ["java/lang/RuntimeException", "java/lang/Exception"]).all fun x => decide (x ∈ lw_tbl) && (goodWord x || bk x)) = true := by decide +kernel
theorem gc_throwNX1_found (B : BdC g w cc nL RX1 ret fr mc lo []) {post : PostC} (hb : (6 ≤ fr ∧ 89 ≤ lo) ∧ cu + 1 ≤ mc) (hrest : (rest.map fun v => v.category).sum ≤ 8)
    (d0 : decode cc pc = .ok (.new 1, 3)) (d3 : decode cc (pc + 3) = .ok (.dup, 1)) (d4 : decode cc (pc + 4) = .ok (.invokespecial 3, 3)) (d7 : decode cc (pc + 7) = .ok (.athrow, 1)) (hw : ∀ q n1 : Nat, nx ≤ n1 → Ψ "java/util/NoSuchElementException" q I R K n1) : GJ g nL (CP w I R K nx (gs g).heap) cu (CQ g w mc post Ψ) pc lc rest :=
  gc_throw B (names := ["java/lang/RuntimeException", "java/lang/Exception"]) (by decide +kernel) (by decide +kernel) q822 q115 (gc_at_ok _ _ _ _ at_N) rfl rfl hb.1.1 hb.1.2 hb.2 hrest d0 d3 d4 d7 hw
theorem gc_throwAX1_right (B : BdC g w cc nL RX1 ret fr mc lo []) {post : PostC} (hb : (6 ≤ fr ∧ 89 ≤ lo) ∧ cu + 1 ≤ mc) (hrest : (rest.map fun v => v.category).sum ≤ 8)
    (d0 : decode cc pc = .ok (.new 7, 3)) (d3 : decode cc (pc + 3) = .ok (.dup, 1)) (d4 : decode cc (pc + 4) = .ok (.invokespecial 9, 3)) (d7 : decode cc (pc + 7) = .ok (.athrow, 1)) (hw : ∀ q n1 : Nat, nx ≤ n1 → Ψ "java/lang/IllegalArgumentException" q I R K n1) : GJ g nL (CP w I R K nx (gs g).heap) cu (CQ g w mc post Ψ) pc lc rest :=
  gc_throw B (names := ["java/lang/RuntimeException", "java/lang/Exception"]) (by decide +kernel) (by decide +kernel) q498 q101 (gc_at_ok _ _ _ _ at_A) rfl rfl hb.1.1 hb.1.2 hb.2 hrest d0 d3 d4 d7 hw
end CAUX
section CCATCH
variable {g : Gm} {cc : ByteArray} {nL : Nat} {own : String} {pc : Nat} {lc : List (Nat × Value)} {w : CD} {I : MI} {R : MR} {K : MK} {nx : Nat} {fr mc lo : Nat} {cu : Nat} {Ψ : PsiC} {rest : List Value} {H0 : Heap} {Q : State → Prop} {ret : Option FieldType} {hh : List (Nat × Nat × Nat × Nat)}
theorem gc_cov0 {pc : Nat} : ∀ x ∈ tableOf [], covers x pc = false := by
  intro x h
  cases h
theorem escCatch (B : BdC g w cc nL own ret fr mc lo hh) {x : ExceptionTableEntry} {name : String} {h9 : Nat} (hsp : tableOf hh = [x]) (hpc : x.handlerPc = h9) (hx : covers x pc = true) (h0 : x.catchType ≠ 0) (_ : cu ≤ mc) {Ψh : Nat → MI → MR → MK → Nat → Prop} (hlink : Cond.classLink own x.catchType name ∈ lw_all) (hcast : Cond.castable name name ∈ lw_tbl)
    (k : ∀ q I' R' K' n', Ψh q I' R' K' n' → GJ g nL (CP w I' R' K' n' H0) cu Q h9 lc [rv q]) : EscC g w nL H0 cu Q pc lc rest (fun E q I' R' K' n' => E = name ∧ Ψh q I' R' K' n') := by
  subst hpc
  rintro E ce q I' R' K' n' H1 locs1 ls hl ⟨rfl, hw⟩ hP h1 h2 h3
  exact vx_catch B.1.2.2.2.1 [] x [] (by rw [B.2.2.2.2.2.1, hsp]; rfl) (fun z hz => by cases hz) hx h0 (B.1.2.2.2.2 _ hlink) ((B.2.1.2.1 _ hcast rfl).useB rfl) h1 h2 h3 (k (q + 1) I' R' K' n' hw H1 locs1 ls hP hl)
end CCATCH
def MetCW (l : Launch) (y : MethodName) (cc : ByteArray) (nL : Nat) (ret : Option FieldType) (hh : List (Nat × Nat × Nat × Nat)) (fr mc lo : Nat) (av : List Value) (w : CD) (I : MI) (R : MR) (K : MK) (nx : Nat) (post : PostC) (Ψ : PsiC) : Prop :=
  vx_Met l y (wsW_ y cc nL ret hh) (cRm fr mc lo) (PC av w I R K nx) (QC post w) (XC_ Ψ w) mc (24 * mc) (Ac w)
theorem mw_of {l : Launch} (hlt : l.stackTraces = false) {y : MethodName} {cc : ByteArray} {nL : Nat} {own : String} {ret : Option FieldType} {hh : List (Nat × Nat × Nat × Nat)} {fr mc lo : Nat} {av : List Value} {w : CD} {I : MI} {R : MR} {K : MK} {nx : Nat} {post : PostC} {Ψ : PsiC}
    (hy : plainName y.cls = true) (hc : y.cls = own) (hlen : (lg_sl av).length ≤ nL)
    (body : ∀ g : Gm, (gme g).name = y.name → BdC g w cc nL own ret fr mc lo hh → GJ g nL (CP w I R K nx (gs g).heap) 0 (CQ g w mc post Ψ) 0 (lv_args 0 av) []) : MetCW l y cc nL ret hh fr mc lo av w I R K nx post Ψ := by
  subst hc
  refine vx_ofWH (cc := cc) (maxL := nL) (ret := ret) (hh := hh) hy rfl ?_
  intro p e s m args below meth c s₁ B hml hv
  obtain ⟨rfl, hP, hK⟩ := hv
  have htw := atoms_spec (ws := wsW_ y cc nL ret hh) B.pre
  have hts : ∀ w ∈ lw_all, w.before _ s = true := fun w h => htw w (List.mem_cons_of_mem _ h)
  have htab := vx_table (x := y) B (htw _ List.mem_cons_self)
  have hown : s.vm.findClass y.cls = some m.cls := findClass_of_methodNamed B.named
  have h := body (p, l, e, (headSpec (wsW_ y cc nL ret hh) (cRm fr mc lo)).room, s, m, av.toArray, below, meth, c) (name_of_methodNamed B.named B.method).1 ⟨⟨B.exec, B.bytes, hml, hown, hts⟩, hK, B.returns, B.notSynchronized, ⟨Nat.le_refl _, Nat.le_refl _, Nat.le_refl _, Nat.le_refl _⟩, htab, hlt, hP.2.2.2.1⟩
  rw [lg_entry_eq]
  exact h s.heap [] _ ⟨hP, va_S.rf⟩ (lv_entry av hlen)
theorem cat_le (v : Value) : v.category ≤ 2 := by cases v <;> exact Nat.le_of_ble_eq_true rfl
theorem gc_sum (l : List Value) : (l.map fun v => v.category).sum ≤ 2 * l.length := by
  induction l with
  | nil => exact Nat.le_refl _
  | cons v l ih =>
    have := cat_le v
    simp only [List.map_cons, List.sum_cons, List.length_cons]
    omega
theorem gc_rest {l : List Value} (h : l.length ≤ 4) : (l.map fun v => v.category).sum ≤ 8 := Nat.le_trans (gc_sum l) (by omega)
theorem lv_args_rv (i r : Nat) (l : List Value) : lv_args i (rv r :: l) = (i, rv r) :: lv_args (i + 1) l := by cases r <;> rfl
theorem lv_args_int (i : Nat) (x : Int32) (l : List Value) : lv_args i (.int x :: l) = (i, .int x) :: lv_args (i + 1) l := rfl
theorem lv_args_long (i : Nat) (x : Int64) (l : List Value) : lv_args i (.long x :: l) = (i, .long x) :: lv_args (i + 2) l := rfl
section CLONG
variable {g : Gm} {cc : ByteArray} {nL : Nat} {cu : Nat} {Q : State → Prop} {pc : Nat} {lc : List (Nat × Value)} {rest : List Value} {w : CD} {I : MI} {R : MR} {K : MK} {nx : Nat} {H0 : Heap} {own : String} {fr mc lo : Nat} {ret : Option FieldType} {hh : List (Nat × Nat × Nat × Nat)}
/-- a long as a number -/
def i64n (v : Int64) : Nat := v.toUInt64.toNat
theorem i64n_of (v : Int64) : Int64.ofNat (i64n v) = v := by
  unfold i64n
  apply Int64.toBitVec_inj.mp
  simp [Int64.toUInt64]
theorem gc_lald (C : CxH g cc nL own) (hW : WK w (gs g)) {r : Nat} {i : Int32} (hr : (K r).1 = 25) (hin : vp_in i (K r).2) (dg : decode cc pc = .ok (.laload, 1))
    (kk : GJ g nL (CP w I R K nx H0) cu Q (pc + 1) lc (.long (Int64.ofNat (R r i.toNatClampNeg)) :: rest)) : GJ g nL (CP w I R K nx H0) cu Q pc lc (.int i :: rv r :: rest) := by
  intro H locs ls hP hl
  have h1 := kk H locs ls hP hl
  obtain ⟨a, rfl, q1, q2, q3, q4, -⟩ := gc_ld C hW hr (by omega) (by omega) hin hP.1
  exact W.lald C.1 C.2.1 q1 q2 (fun q => by cases q) q3 q4 rfl rfl dg h1
theorem gc_last (C : CxH g cc nL own) (hW : WK w (gs g)) {r : Nat} {i : Int32} {x : Int64} (hr : (K r).1 = 25) (hin : vp_in i (K r).2) (dg : decode cc pc = .ok (.lastore, 1))
    (kk : GJ g nL (CP w I (u2 R r i.toNatClampNeg (i64n x)) K nx H0) cu Q (pc + 1) lc rest) : GJ g nL (CP w I R K nx H0) cu Q pc lc (.long x :: .int i :: rv r :: rest) := by
  intro H locs ls hP hl
  obtain ⟨hP, hS0⟩ := hP
  obtain ⟨a, rfl, q1, q2, q3, q4, hA⟩ := gc_ld C hW hr (by omega) (by omega) hin hP
  refine W.last (a := a) C.1 C.2.1 q1 q2 (fun q => by cases q) q3 rfl rfl dg fun H1 e z oq => ?_
  refine kk H1 _ ls ⟨gc_stc hr (by omega) (by omega) rfl hP hA (fun _ _ => rfl) (fun b hb => u2_off hb) (fun j => ?_) e z oq, hS0.put z oq hA⟩ hl
  unfold updV u2
  by_cases e2 : j = i.toNatClampNeg
  · rw [if_pos e2, if_pos ⟨rfl, e2⟩]
    show Value.long x = Value.long (Int64.ofNat (i64n x))
    rw [i64n_of]
  · rw [if_neg e2, if_neg (fun q => e2 q.2)]
theorem gc_newJ (C : CxH g cc nL own) (hW : WK w (gs g)) {n : Int32} {N : Nat} (hn : ¬ n < 0) (hN : n.toNatClampNeg = N) {u : Nat} (hu : N ≤ 24 * u) (hu1 : 1 ≤ u) (hu2 : u ≤ 2000000) (hcu : cu + u ≤ (gR g).cells ∧ 24 * (cu + u) ≤ (gR g).slots)
    (dg : decode cc pc = .ok (.newarray .long, 2)) (kk : ∀ q, q = nx + 1 → GJ g nL (CP w I (u1 R q (fun _ => 0)) (u1 K q (25, N)) q H0) (cu + u) Q (pc + 2) lc (rv q :: rest)) : GJ g nL (CP w I R K nx H0) cu Q pc lc (.int n :: rest) := by
  subst hN
  intro H locs ls hP hl
  obtain ⟨hP, hS0⟩ := hP
  refine va_newaK C.1 C.2.1 (atype := .long) (C.2.2.2.2 _ q1781) rfl dg rfl hn rfl (Nat.le_trans (Nat.mul_le_mul hu (Nat.le_refl 8)) (by omega)) (by omega) (by omega) hP.1 fun H1 cB e1 z1 o1 hAr hNm => ?_
  have hcb2 : cB = cA w 25 := Option.some.inj (hNm.symm.trans (hW.2.1 25 (by omega) (by omega)).2)
  refine W.widen (k := cu + u) (n := 24 * (cu + u)) (by omega) (by omega) ?_
  refine kk _ rfl H1 locs ls ⟨repC_new hP z1 o1 (fun _ _ => rfl) (fun b hb => u1_off hb) (by show 25 ≠ 26; omega) (fun c2 r2 h2 h3 => ?_) (fun h2 h3 => ?_), hS0.new hP.1 z1 o1⟩ hl
  · have := kCl_len h3
    simp at h2
    omega
  · unfold arrC
    rw [e1, hcb2, u1_on]
    rfl
/-- caught by one row, or by the second of two -/
theorem escCatch2 (B : BdC g w cc nL own ret fr mc lo hh) {x y : ExceptionTableEntry} {nx1 ny : String} {h9 h10 : Nat} (hsp : tableOf hh = [x, y]) (hpc : x.handlerPc = h9) (hpc2 : y.handlerPc = h10) (hx : covers x pc = true) (hy : covers y pc = true) (h0 : x.catchType ≠ 0) (h02 : y.catchType ≠ 0) (_ : cu ≤ mc) {Ψ1 Ψ2 : Nat → MI → MR → MK → Nat → Prop} (hl1 : Cond.classLink own x.catchType nx1 ∈ lw_all) (hc1 : Cond.castable nx1 nx1 ∈ lw_tbl) (hl2 : Cond.classLink own y.catchType ny ∈ lw_all) (hc2 : Cond.castable ny ny ∈ lw_tbl) (hNc : va_Nc ny nx1 (gs g))
    (k1 : ∀ q I' R' K' n', Ψ1 q I' R' K' n' → GJ g nL (CP w I' R' K' n' H0) cu Q h9 lc [rv q]) (k2 : ∀ q I' R' K' n', Ψ2 q I' R' K' n' → GJ g nL (CP w I' R' K' n' H0) cu Q h10 lc [rv q]) : EscC g w nL H0 cu Q pc lc rest (fun E q I' R' K' n' => (E = nx1 ∧ Ψ1 q I' R' K' n') ∨ (E = ny ∧ Ψ2 q I' R' K' n')) := by
  subst hpc
  subst hpc2
  rintro E ce q I' R' K' n' H1 locs1 ls hl (⟨rfl, hw⟩ | ⟨rfl, hw⟩) hP h1 h2 h3
  · exact vx_catch B.1.2.2.2.1 [] x [y] (by rw [B.2.2.2.2.2.1, hsp]; rfl) (fun z hz => by cases hz) hx h0 (B.1.2.2.2.2 _ hl1) ((B.2.1.2.1 _ hc1 rfl).useB rfl) h1 h2 h3 (k1 (q + 1) I' R' K' n' hw H1 locs1 ls hP hl)
  · refine vx_catch B.1.2.2.2.1 [x] y [] (by rw [B.2.2.2.2.2.1, hsp]; rfl) (fun z hz => ?_) hy h02 (B.1.2.2.2.2 _ hl2) ((B.2.1.2.1 _ hc2 rfl).useB rfl) h1 h2 h3 (k2 (q + 1) I' R' K' n' hw H1 locs1 ls hP hl)
    rcases List.mem_singleton.mp hz with rfl
    exact Or.inr ⟨h0, nx1, B.1.2.2.2.2 _ hl1, hNc⟩
variable {y : MethodName} {bytes : ByteArray} {maxL index n : Nat} {ret2 : Option FieldType} {hh2 : List (Nat × Nat × Nat × Nat)} {fr2 mc2 lo2 : Nat} {As : List Value} {post2 : PostC} {Ψ2 : PsiC} {r : Nat}
theorem gc_callVX (C : CxH g cc nL own) (hWC : WC w (gs g)) (hM : MetCW g.2.1 y bytes maxL ret2 hh2 fr2 mc2 lo2 (rv (r + 1) :: As) w I R K nx post2 Ψ2) (hR : RmOk g cu mc2 fr2 maxL lo2) {Cn : String} (hG : GoodIn lw_all (wsV own index Cn y (wsW_ y bytes maxL ret2 hh2)))
    (hd : y.cls = Cn ∧ y.cls ≠ "java/lang/invoke/MethodHandle" ∧ y.cls ≠ "java/lang/invoke/VarHandle" ∧ (parseMethodDescriptor y.desc).map (fun d => d.parameters.length) = some n) (hn : As.length = n)
    (hrc : ∀ H : Heap, RepC w I R K nx H → ∃ cell : Cell, H[r]? = some cell ∧ cell.vm.isStatics = false ∧ (gs g).vm.findClass Cn = some cell.cls) {stk : List Value} (hstk : stk = As.reverse ++ rv (r + 1) :: rest) (hrest : (rest.map fun v => v.category).sum ≤ 8) (dg : decode cc pc = .ok (.invokevirtual index, 3))
    (kx : EscC g w nL H0 (cu + mc2) Q pc lc rest Ψ2)
    (k : ∀ (v : Option Value) I' R' K' nx', post2 v I' R' K' nx' → GJ g nL (CP w I' R' K' nx' H0) (cu + mc2) Q (pc + 3) lc (v.toList ++ rest)) : GJ g nL (CP w I R K nx H0) cu Q pc lc stk := by
  subst hstk
  intro H locs ls hP hl
  exact gc_after hP (vx_runVX (As := As) (rest := rest) C hM (vx_cwVW n C.2.2.2.2 hG rfl rfl rfl hd hR.1) ⟨(gc_pre hWC hP (av := rv (r + 1) :: As)).1, hrc H hP.1, (gc_pre hWC hP (av := rv (r + 1) :: As)).2⟩ rfl hn hl.1 rfl (lv_room hrest) dg hR.2) (fun E ce q I' R' K' nx' H1 locs1 hp hP' h1 h2 h3 => kx E ce q I' R' K' nx' H1 locs1 ls hl hp hP' h1 h2 h3) (fun v I' R' K' nx' H1 locs1 hp hP' => k v I' R' K' nx' hp H1 locs1 ls hP' hl)
theorem gc_callSX (C : CxH g cc nL own) (hWC : WC w (gs g)) (hM : MetCW g.2.1 y bytes maxL ret2 hh2 fr2 mc2 lo2 As w I R K nx post2 Ψ2) (hR : RmOk g cu mc2 fr2 maxL lo2) (hG : GoodIn lw_all (va_wsS own index y (wsW_ y bytes maxL ret2 hh2)))
    (hd : y.cls ≠ "java/lang/invoke/MethodHandle" ∧ y.cls ≠ "java/lang/invoke/VarHandle" ∧ (parseMethodDescriptor y.desc).map (fun d => d.parameters.length) = some n) (hn : As.length = n)
    {stk : List Value} (hstk : stk = As.reverse ++ rest) (hrest : (rest.map fun v => v.category).sum ≤ 8) (dg : decode cc pc = .ok (.invokestatic index, 3))
    (kx : EscC g w nL H0 (cu + mc2) Q pc lc rest Ψ2)
    (k : ∀ (v : Option Value) I' R' K' nx', post2 v I' R' K' nx' → GJ g nL (CP w I' R' K' nx' H0) (cu + mc2) Q (pc + 3) lc (v.toList ++ rest)) : GJ g nL (CP w I R K nx H0) cu Q pc lc stk := by
  subst hstk
  intro H locs ls hP hl
  exact gc_after hP (vx_runSX (As := As) (rest := rest) C hM (vx_cwSW n C.2.2.2.2 hG rfl rfl rfl hd hR.1) (gc_pre hWC hP) rfl hn hl.1 rfl (lv_room hrest) dg hR.2) (fun E ce q I' R' K' nx' H1 locs1 hp hP' h1 h2 h3 => kx E ce q I' R' K' nx' H1 locs1 ls hl hp hP' h1 h2 h3) (fun v I' R' K' nx' H1 locs1 hp hP' => k v I' R' K' nx' hp H1 locs1 ls hP' hl)
end CLONG
