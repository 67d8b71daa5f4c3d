/-! THE CLAIM OUT OF ONE WALK OF THE LAW'S BODY. Your part is whole_start (and what it stands on); all else here is the same for every law, but numbers. -/
def R_law : String := "ShoeHouseLaw"
def lw_P (b : Addr) (xs : List Int32) (args : Array Value) (s : State) : Prop := args = #[.ref b] ∧ s.IntsAt b xs ∧ xs.length ≤ 384 ∧ (Jvm.Cond.and given_1 narrow_1).before args s = true
def lw_Q (_ : Array Value) (s : State) (o : Outcome) (t : State) : Prop := o = .returned (some (.int 1)) ∧ Framed s o t [] 1200128 5501098
def lw_Z (below : List Frame) (a : Array Value) (s : State) : State → Prop := fun t => ∃ o, t.status = .running ∧ Ended t below o ∧ lw_Q a s o t
/-- the law's own end, with 1 on the stack, nothing written that was there before, its room as the claim has it -/
theorem lw_ret {p : Program} {l : Launch} {e : Env} {s : State} {m : MethodId} {below : List Frame} {meth : Method} {c : Code} {b : Nat} (hx : p.tables.exec = Jvm.exec) (hb : c.code = code) (hr : meth.sig.returnType = ret) (hlocks : meth.locks = false) {pc : Nat} {H : Heap} {ls : Array Slot} (hdg : decode code pc = .ok (.ireturn, 1)) : W p l e room_1 s m #[Value.ref b] below meth c H [] 1200128 5501098 (lw_Z below #[Value.ref b] s) (F0 m pc ls [.int 1]) := by
  intro T hT X
  obtain ⟨fs, hret, hrun, hended, hW, hframe⟩ := X.leave (v := some (.int 1)) (hlocks := hlocks) (fun h => by rw [hr] at h; cases h)
  have hmeth' : T.vm.method? m = some meth := X.method'
  refine ⟨T.setFrames fs, ?_, .returned (some (.int 1)), hrun, hended, rfl, ⟨_, rfl⟩, hW, hframe⟩
  jvm_step X.here [X.here.top, hx, hb, hdg, hmeth', hr, ret, narrow_b1]
  (try refine ⟨rfl, ?_⟩); (try refine ⟨rfl, ?_⟩)
  first | (intro acts; rw [hret _ acts rfl rfl rfl]) | rw [hret _ _ rfl rfl rfl]
  exact Steps.refl _
/-- what holds at the law's entry: the machine, the code, the tables' words (any of lw_tbl by 'hts w (by decide +kernel)'), the script of L ints xs at the cell b, what the Statement gives of the start (any of its parts by flat_of_before) -/
def lw_At (p : Program) (s : State) (m : MethodId) (meth : Method) (c : Code) (b L : Nat) (xs : Nat → Int32) : Prop :=
  p.tables.exec = Jvm.exec ∧ c.code = code ∧ meth.sig.returnType = ret ∧ c.maxLocals = 8 ∧ s.vm.findClass R_law = some m.cls ∧ (∀ w ∈ lw_tbl, w.before #[Value.ref b] s = true) ∧ va_X b L xs s s.heap ∧ b < s.heap.size ∧ meth.locks = false ∧ (Jvm.Cond.and given_1 narrow_1).before #[Value.ref b] s = true
-- ===== YOUR PART BEGINS =====
/-! THE LAW's BODY: both memories at once -/
def LLP (w : CD) (d : TD) (t : Nat) (I : MI) (R : MR) (K : MK) (nx : Nat) (J : Nat → Nat → Int32) (lw : Int64) : Heap → List Loc → Prop := fun H locs => locs = [] ∧ RepC w I R K nx H ∧ RepT d t J lw H
/-- what the law's frame knows -/
def BdL (g : Gm) (w : CD) (d : TD) (xs : Nat → Int32) (L t b : Nat) : Prop :=
  CxH g code 8 R_law ∧ WC w (gs g) ∧ WT d (gs g) ∧ ((gme g).sig.returnType = ret ∧ (gme g).locks = false ∧ gR g = room_1 ∧ ga g = #[.ref b]) ∧ g.2.1.stackTraces = false ∧
  (cz w = (gs g).heap.size ∧ cH w = (gs g).heap) ∧ (ct0 w = t ∧ ct1 w = t + 40 ∧ cz w ≤ t) ∧ va_X b L xs (gs g) (gs g).heap ∧ b < (gs g).heap.size
abbrev QL (g : Gm) : State → Prop := lw_Z (gb g) (ga g) (gs g)
section LBASE
variable {g : Gm} {w : CD} {d : TD} {xs : Nat → Int32} {L t b : Nat} {I : MI} {R : MR} {K : MK} {nx : Nat} {J : Nat → Nat → Int32} {lw : Int64} {cu : Nat} {Q : State → Prop} {pc : Nat} {lc : List (Nat × Value)} {rest st : List Value}
theorem repT_kept {H H1 : Heap} (h : RepT d t J lw H) (oq : ∀ q : Nat, At_ t q → H1[q]? = H[q]?) : RepT d t J lw H1 :=
  ⟨h.1.kept (oq t (at_obj t)), fun k hk => (oq _ (at_arr hk)).trans (h.2 k hk)⟩
theorem repC_keptT {H H1 : Heap} (h : RepC w I R K nx H) (hz : H1.size = H.size) (ht : ct0 w = t ∧ ct1 w = t + 40 ∧ cz w ≤ t) (oq : ∀ q : Nat, ¬ At_ t q → H1[q]? = H[q]?) : RepC w I R K nx H1 := by
  obtain ⟨h1, h2, h3, h4, h5, h6, h7⟩ := h
  obtain ⟨t1, t2, t3⟩ := ht
  have hn : ∀ q, Ac w q → ¬ At_ t q := fun q hA hT => hA.2 ⟨by rw [t1]; exact hT.1, by rw [t2]; exact hT.2⟩
  refine ⟨hz.trans h1, h2, h3, fun q hq => (oq q (fun hT => by have := hT.1; omega)).trans (h4 q hq), fun a c r hb hr => ?_, fun a hb1 hb2 => ?_, h7⟩
  · obtain ⟨g1, g2⟩ := h5 a c r hb hr
    exact ⟨g1, g2.kept (oq a (hn a g1))⟩
  · obtain ⟨g1, g2⟩ := h6 a hb1 hb2
    exact ⟨g1, (oq a (hn a g1)).trans g2⟩
theorem repT_size {H : Heap} (h : RepT d t J lw H) : ∀ q : Nat, At_ t q → q < H.size := by
  intro q hq
  have h38 := h.2 68 (by decide)
  have hlt := (Array.getElem?_eq_some_iff.mp h38).1
  have e : trk 68 = 39 := by decide
  rw [e] at hlt
  have := hq.2
  omega
theorem lp_enterC (h : ∀ H, RepT d t J lw H → GJ g 8 (CP w I R K nx H) cu Q pc lc st) : GJ g 8 (LLP w d t I R K nx J lw) cu Q pc lc st := by
  rintro H locs ls ⟨rfl, hC, hT⟩ hl
  exact h H hT H [] ls ⟨hC, va_S.rf⟩ hl
theorem lp_leaveC (B : BdL g w d xs L t b) {H : Heap} (hT : RepT d t J lw H) (h : GJ g 8 (LLP w d t I R K nx J lw) cu Q pc lc st) : GJ g 8 (CP w I R K nx H) cu Q pc lc st := by
  rintro H1 locs ls ⟨hC, hS⟩ hl
  obtain ⟨-, -, -, -, -, hz, ht, -⟩ := B
  refine va_forget (fun q hq => by rw [← hz.1]; exact (hS.2.2 q hq).1) (h H1 [] ls ⟨rfl, hC, repT_kept hT (fun q hq => hS.2.1 q (repT_size hT q hq) (fun hA => hA.2 ⟨by rw [ht.1]; exact hq.1, by rw [ht.2.1]; exact hq.2⟩))⟩ hl)
theorem lp_enterT (h : ∀ H, RepC w I R K nx H → GJ g 8 (TP d t J lw H) cu Q pc lc st) : GJ g 8 (LLP w d t I R K nx J lw) cu Q pc lc st := by
  rintro H locs ls ⟨rfl, hC, hT⟩ hl
  exact h H hC H [] ls ⟨hT, rfl, va_S.rf⟩ hl
theorem lp_leaveT (B : BdL g w d xs L t b) {H : Heap} (hC : RepC w I R K nx H) (h : GJ g 8 (LLP w d t I R K nx J lw) cu Q pc lc st) : GJ g 8 (TP d t J lw H) cu Q pc lc st := by
  rintro H1 locs ls ⟨hT, hsz, hS⟩ hl
  obtain ⟨-, -, -, -, -, hz, ht, -⟩ := B
  refine va_forget (fun q hq => by have := (hS.2.2 q hq).1; omega) (h H1 [] ls ⟨rfl, repC_keptT hC hsz ht (fun q hq => ?_), hT⟩ hl)
  by_cases hlt : q < H.size
  · exact hS.2.1 q hlt hq
  · rw [Array.getElem?_eq_none (by omega), Array.getElem?_eq_none (by omega)]
theorem lrm (B : BdL g w d xs L t b) {fr2 mc2 lo2 maxL : Nat} (hf : fr2 + 1 ≤ 8192) (hlo : 8 + (maxL + 11) + lo2 ≤ 100000) (hcu : cu + mc2 ≤ 229000) : RmOk g cu mc2 fr2 maxL lo2 := by
  obtain ⟨-, -, -, ⟨-, -, hR, -⟩, -⟩ := B
  unfold RmOk
  rw [hR]
  refine ⟨⟨hf, hlo⟩, Nat.le_trans hcu (Nat.le_of_ble_eq_true rfl), ?_⟩
  show 24 * cu + 24 * mc2 ≤ 5501098
  omega
theorem lp_iald (B : BdL g w d xs L t b) {i : Int32} (hin : vp_in i L) (dg : decode code pc = .ok (.iaload, 1)) (kk : GJ g 8 (LLP w d t I R K nx J lw) cu Q (pc + 1) lc (.int (xs i.toNatClampNeg) :: rest)) : GJ g 8 (LLP w d t I R K nx J lw) cu Q pc lc (.int i :: rv (b + 1) :: rest) := by
  intro H locs ls hP hl
  have k := kk H locs ls hP hl
  obtain ⟨C, -, -, -, -, hz, -, ⟨cell, h1, h2, h3, h4, h5⟩, hb⟩ := B
  have hc : H[b]? = some cell := by
    rw [hP.2.1.2.2.2.1 b (by rw [hz.1]; exact hb), hz.2]
    exact h1
  have hlt : i.toNatClampNeg < L := Nat.not_le.mp fun q => hin (Or.inr q)
  exact W.iald C.1 C.2.1 hc h2 h3 (by rw [h4]; exact hin) (h5 _ hlt) rfl rfl dg k
theorem lp_alen (B : BdL g w d xs L t b) (dg : decode code pc = .ok (.arraylength, 1)) (kk : GJ g 8 (LLP w d t I R K nx J lw) cu Q (pc + 1) lc (.int (nI L) :: rest)) : GJ g 8 (LLP w d t I R K nx J lw) cu Q pc lc (rv (b + 1) :: rest) := by
  intro H locs ls hP hl
  have k := kk H locs ls hP hl
  obtain ⟨C, -, -, -, -, hz, -, ⟨cell, h1, h2, h3, h4, h5⟩, hb⟩ := B
  have hc : H[b]? = some cell := by
    rw [hP.2.1.2.2.2.1 b (by rw [hz.1]; exact hb), hz.2]
    exact h1
  exact W.alen (n := nI L) C.1 C.2.1 hc h2 (by rw [h4]; rfl) rfl rfl dg k
theorem lp_lald (B : BdL g w d xs L t b) {r : Nat} {i : Int32} (hr : (K r).1 = 25) (hin : vp_in i (K r).2) (dg : decode code pc = .ok (.laload, 1)) (kk : GJ g 8 (LLP w d t I R K nx J lw) cu Q (pc + 1) lc (.long (Int64.ofNat (R r i.toNatClampNeg)) :: rest)) : GJ g 8 (LLP w d t I R K nx J lw) cu Q pc lc (.int i :: rv r :: rest) :=
  lp_enterC (fun _ hT => gc_lald B.1 B.2.1.1 hr hin dg (lp_leaveC B hT kk))
theorem lp_ret (B : BdL g w d xs L t b) {v : Int32} (hcu : cu ≤ 229000) (hv : v = 1) (dg : decode code pc = .ok (.ireturn, 1)) : GJ g 8 (LLP w d t I R K nx J lw) cu (QL g) pc lc [.int v] := by
  subst hv
  rintro H locs ls ⟨rfl, -, -⟩ hl
  obtain ⟨C, -, -, ⟨h1, h2, h3, h4⟩, -⟩ := B
  obtain ⟨p, l, e, R0, s, m, a, below, meth, c⟩ := g
  obtain rfl : R0 = room_1 := h3
  obtain rfl : a = #[.ref b] := h4
  exact W.widen (k := 1200128) (n := 5501098) (Nat.le_trans hcu (Nat.le_of_ble_eq_true rfl)) (by omega) (lw_ret C.1 C.2.1 h1 h2 dg)
theorem lp_nmI (k : ∀ I', I' = I → GJ g 8 (LLP w d t I' R K nx J lw) cu Q pc lc rest) : GJ g 8 (LLP w d t I R K nx J lw) cu Q pc lc rest := k I rfl
variable {y : MethodName} {bytes : ByteArray} {maxL index n : Nat} {ret2 : Option FieldType} {fr2 lo2 : Nat} {As : List Value} {post : Option Value → (Nat → Nat → Int32) → Int64 → Prop} {H0 : Heap}
theorem gl_callV (B : BdL g w d xs L t b) (hM : MetT g.2.1 y bytes maxL ret2 fr2 lo2 (.ref t :: As) d t J lw post) (hG : GoodIn lw_all (wsV R_law index RX3 y (ws_ y bytes maxL ret2)))
    (hd : y.cls = RX3 ∧ y.cls ≠ "java/lang/invoke/MethodHandle" ∧ y.cls ≠ "java/lang/invoke/VarHandle" ∧ (parseMethodDescriptor y.desc).map (fun d => d.parameters.length) = some n) (hn : As.length = n)
    (hf : fr2 + 1 ≤ 8192) (hlo : 8 + (maxL + 11) + lo2 ≤ 100000) (hcu : cu ≤ 229000) {stk : List Value} (hstk : stk = As.reverse ++ .ref t :: rest) (hrest : (rest.map fun v => v.category).sum ≤ 8) (dg : decode code pc = .ok (.invokevirtual index, 3))
    (k : ∀ (v : Option Value) J' lw', post v J' lw' → GJ g 8 (TP d t J' lw' H0) cu Q (pc + 3) lc (v.toList ++ rest)) : GJ g 8 (TP d t J lw H0) cu Q pc lc stk := by
  subst hstk
  intro H locs ls hP hl
  obtain ⟨C, -, hT, ⟨-, -, hR0, -⟩, -⟩ := B
  have hR : (tRm fr2 lo2).frames + 1 ≤ (gR g).frames ∧ 8 + (maxL + 11) + (tRm fr2 lo2).locals ≤ (gR g).locals := by rw [hR0]; exact ⟨hf, hlo⟩
  have hcells : cu + 0 ≤ (gR g).cells ∧ 24 * cu + 0 ≤ (gR g).slots := by
    rw [hR0]
    refine ⟨Nat.le_trans hcu (Nat.le_of_ble_eq_true rfl), ?_⟩
    show 24 * cu + 0 ≤ 5501098
    omega
  have hcell : ∃ cellB : Cell, H[t]? = some cellB ∧ cellB.vm.isStatics = false ∧ (gs g).vm.findClass RX3 = some cellB.cls := by
    obtain ⟨cell, q1, q2, q3, -⟩ := hP.1.1
    exact ⟨cell, q1, by rw [q3]; rfl, by rw [q2]; exact hT.1.2.1⟩
  exact gt_after hP (va_runV (As := As) (rest := rest) C hM (cwV n C.2.2.2.2 hG rfl rfl rfl hd hR) ⟨(gt_pre hT hP (av := .ref t :: As)).1, hcell, (gt_pre hT hP (av := .ref t :: As)).2⟩ rfl hn hl.1 rfl (lv_room hrest) dg hcells) (fun v J' lw' H1 locs1 hp hP' => k v J' lw' hp H1 locs1 ls hP' hl)
end LBASE
