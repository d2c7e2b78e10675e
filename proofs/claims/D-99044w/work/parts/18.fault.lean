/-! ===== the constructor of Exception on an object of a class below it (turned from kit/laws/EXCEPTIONS) ===== -/
def hz_upAtoms (own : String) (ic : Nat) (K X : String) (names : List String) (nK : Nat) : List Cond :=
  Bundle.throwableAtoms ++ Bundle.chain0Atoms X names ++
  [.methodLink own ic (Bundle.init0 X), .instantiable K nK, .selects K Bundle.tFill0 Bundle.tFill0, .selects K Bundle.tFill Bundle.tFill,
   .lays K Bundle.tN "cause" "Ljava/lang/Throwable;", .lays K Bundle.tN "stackTrace" Bundle.steD, .lays K Bundle.tN "suppressedExceptions" Bundle.listD, .lays K Bundle.tN "detailMessage" "Ljava/lang/String;",
   .isRef (.static Bundle.tN "UNASSIGNED_STACK" Bundle.steD), .isRef (.static Bundle.tN "SUPPRESSED_SENTINEL" Bundle.listD),
   .fieldLink Bundle.tN 198 Bundle.tN "backtrace" "Ljava/lang/Object;", .lays Bundle.tN Bundle.tN "backtrace" "Ljava/lang/Object;", .lays K Bundle.tN "backtrace" "Ljava/lang/Object;"]
section HZX
variable {p : Program} {l : Launch} {e : Env} {R : Room} {s : State} {m₀ : MethodId} {args : Array Value} {below : List Frame} {meth : Method} {c : Code} {W : State} {locs : List Loc} {cells slots : Nat}
set_option maxHeartbeats 1000000 in
theorem hz_ctorUp (X : Stand p l e R s m₀ args below meth c W [] cells slots) (hexec : p.tables.exec = Jvm.exec) (htr : e.platform.stackTraces = false) {own cls K : String} {names : List String} {ic nK : Nat}
    (hown : s.vm.findClass own = some m₀.cls) (hcls : Bundle.fit cls = true) (hnames : ∀ n ∈ names, Bundle.fit n = true)
    (h : ∀ a ∈ hz_upAtoms own ic K cls names nK, a.before args s = true)
    {a : Addr} {cX : ClassId} {kX : Class} (hfoundX : s.vm.findClass K = some cX) (hkX : s.vm.classes[cX]? = some kX) (hcell : W.heap[a]? = some (freshCell cX kX))
    {g : JFrame} (hg : g.method = m₀) (hsize : g.locals.size = c.maxLocals) {rest : List Value} (hstack : g.stack = .ref a :: rest)
    (hd6 : decode c.code g.pc = .ok (.invokespecial ic, 3))
    (hRframes : names.length + 3 < R.frames) (hRlocals : 2 * g.monitorRoom + (rest.map fun v => v.category).sum + (13 * (names.length + 1) + 41) ≤ R.locals) :
    ∃ (V : State) (ce : Cell) (L : List Loc), Stand p l e R s m₀ args below meth c (V.setCell a ce) L cells slots ∧ (∀ y ∈ L, y.base = a) ∧ a < V.heap.size ∧ ce.cls = cX ∧ ce.vm = .none ∧ ce.slots.size = kX.instanceTypes.size ∧ V.heap = W.heap ∧
      ∀ target, Steps p.tables e below ((V.setCell a ce).setTop { g with stack := rest, pc := g.pc + 3 }) target → Steps p.tables e below (W.setTop g) target := by
  have howns : e.platform.frameOwnsMonitors = true := by rw [X.admits.platform]
  have hfin : e.platform.finalization = false := by rw [X.admits.platform]
  have hpl : e.platform.magicAccessors = ({} : Platform).magicAccessors := by rw [X.admits.platform]
  have a' : ∀ x, x ∈ hz_upAtoms own ic K cls names nK → x.holds args s none s [] = true := fun x hx => h x hx
  obtain ⟨T, Z, L, LZ, Y⟩ := ThrowableC.of_atoms (args := args) howns hfin hpl (fun x hx => h x (by simp [hz_upAtoms, hx]))
  obtain ⟨P1, Ps, hlen, L1, hL, hP1m, hlink1, hlink⟩ := Bundle.chain0 (args := args) hpl Y.init0 names cls hcls hnames (fun x hx => h x (by simp [hz_upAtoms, hx]))
  have hfound : s.vm.findClass cls = some P1.m.cls := findClass_of_methodNamed hP1m
  obtain ⟨c1, kX', hc1, hk, hord, -, -, hn6⟩ := Cond.instantiable_spec (a' (.instantiable K nK) (by simp [hz_upAtoms]))
  cases Option.some.inj (hc1.symm.trans hfoundX)
  cases Option.some.inj (hkX.symm.trans hk)
  have hsel0 : selectMethod e.platform s.vm cX T.fill0 = .method T.fill0 := by
    obtain ⟨c2, r2, m2, q1, q2, q3, q4, -⟩ := Cond.selects_spec (a' (.selects K Bundle.tFill0 Bundle.tFill0) (by simp [hz_upAtoms]))
    cases Option.some.inj (q1.symm.trans hfoundX)
    cases Option.some.inj (q2.symm.trans (State.methodFound?_of_named Y.fill0 (by decide)))
    cases Option.some.inj (q3.symm.trans Y.fill0)
    rw [Launch.admits_selectMethod X.admits]; exact q4
  have hselF : selectMethod e.platform s.vm cX T.fill = .method T.fill := by
    obtain ⟨c2, r2, m2, q1, q2, q3, q4, -⟩ := Cond.selects_spec (a' (.selects K Bundle.tFill Bundle.tFill) (by simp [hz_upAtoms]))
    cases Option.some.inj (q1.symm.trans hfoundX)
    cases Option.some.inj (q2.symm.trans (State.methodFound?_of_named Y.fill (by decide)))
    cases Option.some.inj (q3.symm.trans Y.fill)
    rw [Launch.admits_selectMethod X.admits]; exact q4
  obtain ⟨cellS0, hcS0, hiss⟩ := Y.statics
  obtain ⟨u0, hu0⟩ := Cond.staticRefV Y.unassigned L.unassignedStatic L.statics hcS0 hiss (a' (.isRef (.static Bundle.tN "UNASSIGNED_STACK" Bundle.steD)) (by simp [hz_upAtoms]))
  obtain ⟨sen, hsen⟩ := Cond.staticRefV Y.sentinel L.sentinelStatic L.statics hcS0 hiss (a' (.isRef (.static Bundle.tN "SUPPRESSED_SENTINEL" Bundle.listD)) (by simp [hz_upAtoms]))
  obtain ⟨ci198, i198, fB, hk198, hg198, ha198, hsB, -, hnB, htB, hffB⟩ := Cond.ownField (t := .object "java/lang/Object") Y.found L.cls (by decide +kernel) (a' (.fieldLink Bundle.tN 198 Bundle.tN "backtrace" "Ljava/lang/Object;") (by simp [hz_upAtoms])) (a' (.lays Bundle.tN Bundle.tN "backtrace" "Ljava/lang/Object;") (by simp [hz_upAtoms])) e.platform hpl
  obtain ⟨cellS, hcS', heS, -, hkeep⟩ := X.same.2.2.2.2.2 T.aS cellS0 hcS0
  have hcellS : W.heap[T.aS]? = some cellS := hcS'
  have hout' : ∀ i, (⟨T.aS, i⟩ : Loc) ∉ ([] : List Loc) := fun i hmem => nomatch hmem
  have hknownS : cellS.vm ≠ .unknown := by
    rw [heS]; intro hu
    rw [show cellS0.vm = .unknown from hu] at hiss
    cases hiss
  have hneS : T.aS ≠ a := fun z => by
    rw [z, hcell] at hcellS
    have h9 : (freshCell cX kX).vm = cellS0.vm := by rw [Option.some.inj hcellS]; have h8 := congrArg Cell.vm heS; exact h8
    rw [← h9] at hiss
    cases hiss
  obtain ⟨iM, hffM⟩ := Y.msg
  obtain ⟨tyC, dC, hdC, hdnC⟩ := Cond.laysAt hfoundX hk Y.cause (a' (.lays K Bundle.tN "cause" "Ljava/lang/Throwable;") (by simp [hz_upAtoms]))
  obtain ⟨tyS, dS, hdS, hdnS⟩ := Cond.laysAt hfoundX hk Y.stack (a' (.lays K Bundle.tN "stackTrace" Bundle.steD) (by simp [hz_upAtoms]))
  obtain ⟨tyP, dP, hdP, hdnP⟩ := Cond.laysAt hfoundX hk Y.supp (a' (.lays K Bundle.tN "suppressedExceptions" Bundle.listD) (by simp [hz_upAtoms]))
  obtain ⟨tyM, dM, hdM, hdnM⟩ := Cond.laysAt hfoundX hk hffM (a' (.lays K Bundle.tN "detailMessage" "Ljava/lang/String;") (by simp [hz_upAtoms]))
  obtain ⟨tyB, dB, hdB, hdnB⟩ := Cond.laysAt hfoundX hk hffB (a' (.lays K Bundle.tN "backtrace" "Ljava/lang/Object;") (by simp [hz_upAtoms]))
  have bC := Cond.laysApart hdB hdC hdnB hdnC (by rw [hnB, Y.causeName]; decide)
  have bS := Cond.laysApart hdB hdS hdnB hdnS (by rw [hnB, Y.stackName]; decide)
  have bP := Cond.laysApart hdB hdP hdnB hdnP (by rw [hnB, Y.suppName]; decide)
  have hskip : SkipFacts T e.platform s (fun u => u) u0 ((preparedCellV T.toThrowableT (freshCell cX kX) a u0 sen).withEntry W.cur) :=
    ⟨{ ci198 := ci198, i198 := i198, fBack := fB }, ⟨hk198, hg198, ha198, hsB⟩, by
      have := fresh_default (c := cX) tyB
      rw [htB] at this
      simpa [preparedCellV, Cell.setSlot, Cell.withEntry, Array.getElem?_setIfInBounds, bC, bS, bP, bC.symm, bS.symm, bP.symm, defaultValue] using this, fun _ _ => rfl⟩
  obtain ⟨tm, methC, cdC, kC, vm₁, hnC, -, -, -, -, -, -, -, hW₁, st1⟩ := Steps.initCold (tb := p.tables) (e := e) (below := below) (s := s) (U := W) X.here hexec X.warmed hpl hown (t := Bundle.init0 cls) rfl rfl (Bundle.fit_spec hcls).2
    (a' (.methodLink own ic (Bundle.init0 cls)) (by simp [hz_upAtoms])) (h (.instanceMethod (Bundle.init0 cls)) (by cases names <;> simp [hz_upAtoms, Bundle.chain0Atoms, Bundle.passAtoms])) (bytes := Bundle.five) (maxL := 1) (h (.code (Bundle.init0 cls) Bundle.five 1 none) (by cases names <;> simp [hz_upAtoms, Bundle.chain0Atoms, Bundle.passAtoms]))
    (f := g) hg (a := a) (rest := rest) hstack hd6
  cases Option.some.inj (hnC.symm.trans hP1m)
  have X₁ := X.noted hW₁
  obtain ⟨vm₂, X₂, st2⟩ := X₁.ctorPlainOffV hexec (g := { g with stack := rest }) hg hsize T L Z LZ (P1 :: Ps)
    (fun P hP => by rcases List.mem_cons.mp hP with rfl | hP; exact L1; exact hL P hP) ⟨hlink1, hlink⟩ (u0 := u0) (sen := sen) (self := a) (cell := freshCell cX kX) (cellS := cellS)
    hcell (fun _ => by simp) (by simp) rfl rfl hsel0 hselF hcellS hneS hknownS (by rw [hkeep _ (hout' _)]; exact hu0) (by rw [hkeep _ (hout' _)]; exact hsen)
    (Takes.of_laid hk hord tyC (by rw [Y.causeType]; rfl)) (Takes.of_laid hk hord tyS (by rw [Y.stackType]; exact fits_refV_array _ u0)) (Takes.of_laid hk hord tyP (by rw [Y.suppType]; exact fits_refV_object _ sen)) Y.objLocals hskip htr [] hd6
    (by simp only [List.length_cons, hlen]; omega) (by simp only [List.length_cons, hlen]; exact hRlocals)
  have hlt : a < ((W.setVm vm₁).setVm vm₂).heap.size := (Array.getElem?_eq_some_iff.mp hcell).1
  refine ⟨(W.setVm vm₁).setVm vm₂, _, _, X₂, fun y hy => ?_, hlt, rfl, rfl, by simp [preparedCellV, Cell.setSlot, freshCell], rfl, fun target hwalk => st1 _ (fun acts => ?_)⟩
  · simp only [List.nil_append, List.mem_cons, List.not_mem_nil, or_false] at hy
    rcases hy with rfl | rfl | rfl | rfl <;> rfl
  · rw [doInvoke_state]
    exact st2 _ hwalk
end HZX
/-! ===== CORE 8: the one exception class of the component: an object that is thrown knows its place ===== -/
def hz_ft (D : va_G) (q : Nat) (v : Int32) (H : Heap) : Prop := ∃ cell : Cell, H[q]? = some cell ∧ cell.cls = D.1 14 ∧ cell.vm = .none ∧ cell.slots[D.2 14 6]? = some (.int v)
def hz_raw (D : va_G) (q : Nat) (U : State) (H : Heap) : Prop := ∀ k : Class, U.vm.classes[D.1 14]? = some k → H[q]? = some (freshCell (D.1 14) k)
def hz_off (S : hz_S) (loc : Nat → Nat) (q : Nat) : Prop := ∀ id, 0 < id → id < S.1 → loc id ≠ q
theorem hz_raw.moved {D : va_G} {q : Nat} {u U : State} {H : Heap} (hvm : u.vm.Alike U.vm) (hK : ∃ k, u.vm.classes[D.1 14]? = some k) (h : hz_raw D q u H) : hz_raw D q U H := by
  intro k hk
  obtain ⟨k0, h0⟩ := hK
  obtain ⟨k', h1, h2⟩ := hvm.2.2 _ _ h0
  cases Option.some.inj (hk.symm.trans h1)
  rw [h k0 h0, h2]
theorem hz_W.kept {τ : hz_T} {D : va_G} {dA : Nat → ClassId} {A : Nat → Prop} {loc : Nat → Nat} {S : hz_S} {R : hz_R} {I : hz_I} {L : hz_L} {H H1 : Heap} (h : hz_W τ D dA A loc S R I L H) (hk : ∀ id, 0 < id → id < S.1 → H1[loc id]? = H[loc id]?) : hz_W τ D dA A loc S R I L H1 := by
  refine ⟨h.1.kept fun k x hx => ?_, h.2⟩
  by_cases hl : k < S.1 - 1
  · rw [hz_wl_lt hl] at hx
    cases hx
    exact hk (k + 1) (Nat.succ_pos _) (by omega)
  · rw [hz_wl_ge (Nat.le_of_not_lt hl)] at hx
    cases hx
section HZ8
variable {p : Program} {l : Launch} {e : Env} {Rm : Room} {s : State} {m : MethodId} {args : Array Value} {below : List Frame} {meth : Method} {c : Code} {H : Heap} {locs : List Loc} {cells slots : Nat} {Q : State → Prop}
variable {cc : ByteArray} {own : String} {nL : Nat} {pc : Nat} {ls : Array Slot} {rest : List Value} {τ : hz_T} {D : va_G} {dA : Nat → ClassId} {A : Nat → Prop} {ro loc : Nat → Nat} {S : hz_S} {R : hz_R} {I : hz_I} {L : hz_L}
variable {idx : Nat}
/-- 'new Fault' -/
theorem hz_newx (F : CallFix p m c cc nL s args lw_all own) (G : hz_G D dA A ro s) (hW : hz_W τ D dA A loc S R I L H) (hS : va_S A s.heap H locs) (qk : Cond.classLink own idx "BehindAnotherHearse$Fault" ∈ lw_all) (d : decode cc pc = .ok (.new idx, 3)) (hf : cells + 1 ≤ Rm.cells ∧ slots + 7 ≤ Rm.slots)
    (kk : ∀ (q : Nat) (H1 : Heap), hz_W τ D dA A loc S R I L H1 → va_S A s.heap H1 locs → hz_raw D q s H1 → A q → hz_off S loc q → W p l e Rm s m args below meth c H1 locs (cells + 1) (slots + 7) Q (F0 m (pc + 3) ls (.ref q :: rest))) : W p l e Rm s m args below meth c H locs cells slots Q (F0 m pc ls rest) := by
  refine W.newc F.1 F.2.1 F.2.2.2.1 (F.2.2.2.2 _ qk) (F.2.2.2.2 _ q390) (F.2.2.2.2 _ q89) rfl d hf.1 hf.2 fun cC kC h1 h2 h3 h4 => ?_
  have hc : cC = D.1 14 := Option.some.inj (h1.symm.trans ((G.K.1 14 _ rfl).2.1))
  subst hc
  have hlt : ∀ q : Nat, q < H.size → (H.push ({ cls := D.1 14, slots := kC.instanceTypes.map defaultValue, vm := .none } : Cell))[q]? = H[q]? := fun q hq => by rw [Array.getElem?_push, if_neg (Nat.ne_of_lt hq)]
  refine kk H.size _ (hW.kept fun id h0 hl => hlt _ (hW.lt hl h0)) ⟨by rw [Array.size_push]; exact Nat.le_succ_of_le hS.1, fun q g1 g2 => (hlt q (Nat.lt_of_lt_of_le g1 hS.1)).trans (hS.2.1 q g1 g2), hS.2.2⟩ ?_ (G.A' _ hS.1) (fun id h0 hl => Nat.ne_of_lt (hW.lt hl h0))
  intro k hk
  cases Option.some.inj (h2.symm.trans hk)
  rw [Array.getElem?_push_size]
/-- super() of an exception's own constructor -/
theorem hz_exc0 (F : CallFix p m c cc nL s args lw_all "BehindAnotherHearse$Fault") (hl0 : l.stackTraces = false) (G : hz_G D dA A ro s) {q : Nat} (hraw : hz_raw D q s s.heap) (hsz : ls.size = nL) (d : decode cc pc = .ok (.invokespecial 1, 3)) (hR : 3 < Rm.frames ∧ (rest.map fun v => v.category).sum + 54 ≤ Rm.locals)
    (kk : ∀ (H1 : Heap) (ce : Cell) (L1 : List Loc), (∀ y ∈ L1, y.base = q) → H1.size = s.heap.size → (∀ z, z ≠ q → H1[z]? = s.heap[z]?) → H1[q]? = some ce → ce.cls = D.1 14 → ce.vm = .none → (∀ k, s.vm.classes[D.1 14]? = some k → ce.slots.size = k.instanceTypes.size) → W p l e Rm s m args below meth c H1 L1 cells slots Q (F0 m (pc + 3) ls rest)) : W p l e Rm s m args below meth c s.heap [] cells slots Q (F0 m pc ls (.ref q :: rest)) := by
  intro T hT X
  have htr : e.platform.stackTraces = false := (show e.platform.stackTraces = l.stackTraces by rw [X.admits.platform]).trans hl0
  obtain ⟨hfc, kC, hkC, hkind⟩ := (G.K.1 14 _ rfl).2
  have hcell : T.heap[q]? = some (freshCell (D.1 14) kC) := by rw [hT]; exact hraw kC hkC
  have h : ∀ w ∈ hz_upAtoms "BehindAnotherHearse$Fault" 1 "BehindAnotherHearse$Fault" "java/lang/Exception" [] 7, w.before args s = true := by
    intro w hw
    simp only [hz_upAtoms, Bundle.throwableAtoms, Bundle.chain0Atoms, Bundle.passAtoms, List.cons_append, List.nil_append, List.mem_cons, List.not_mem_nil, or_false] at hw
    rcases hw with rfl | rfl | rfl | rfl | rfl | rfl | rfl | rfl | rfl | rfl | rfl | rfl | rfl | rfl | rfl | rfl | rfl | rfl | rfl | rfl | rfl | rfl | rfl | rfl | rfl | rfl | rfl | rfl | rfl | rfl | rfl | rfl | rfl | rfl | rfl | rfl | rfl | rfl | rfl | rfl | rfl | rfl
    · exact F.2.2.2.2 _ q87
    · exact F.2.2.2.2 _ q409
    · exact F.2.2.2.2 _ q418
    · exact F.2.2.2.2 _ q422
    · exact F.2.2.2.2 _ q425
    · exact F.2.2.2.2 _ q427
    · exact F.2.2.2.2 _ q410
    · exact F.2.2.2.2 _ q411
    · exact F.2.2.2.2 _ q113
    · exact F.2.2.2.2 _ q114
    · exact F.2.2.2.2 _ q412
    · exact F.2.2.2.2 _ q417
    · exact F.2.2.2.2 _ q423
    · exact F.2.2.2.2 _ q439
    · exact F.2.2.2.2 _ q399
    · exact F.2.2.2.2 _ q440
    · exact F.2.2.2.2 _ q401
    · exact F.2.2.2.2 _ q441
    · exact F.2.2.2.2 _ q403
    · exact F.2.2.2.2 _ q413
    · exact G.Zu.2.word
    · exact F.2.2.2.2 _ q415
    · exact G.Zn.2.word
    · exact F.2.2.2.2 _ q405
    · exact F.2.2.2.2 _ q432
    · exact F.2.2.2.2 _ q433
    · exact F.2.2.2.2 _ q434
    · exact F.2.2.2.2 _ q410
    · exact (G.nD 2 rfl).use rfl
    · exact F.2.2.2.2 _ q431
    · exact F.2.2.2.2 _ q390
    · exact F.2.2.2.2 _ q396
    · exact F.2.2.2.2 _ q397
    · exact F.2.2.2.2 _ q398
    · exact F.2.2.2.2 _ q400
    · exact F.2.2.2.2 _ q402
    · exact F.2.2.2.2 _ q404
    · exact hx_isRefq G.Zu.1
    · exact hx_isRefq G.Zn.1
    · exact F.2.2.2.2 _ q408
    · exact F.2.2.2.2 _ q407
    · exact F.2.2.2.2 _ q406
  obtain ⟨V, ce, L1, Z, hL, hlt, hcl9, hvm9, hsz9, hV, st⟩ := hz_ctorUp (names := []) X F.1 htr F.2.2.2.1 (by decide) (fun n hn => absurd hn List.not_mem_nil) h hfc hkC hcell (g := F0 m pc ls (.ref q :: rest)) rfl (hsz.trans F.2.2.1.symm) rfl (by rw [F.2.1]; exact d) hR.1 (by have := hR.2; show 2 * 0 + _ + _ ≤ _; simp only [List.length_nil]; omega)
  have hb : (V.setCell q ce).heap[q]? = some ce := heapAt_setCell_self (s := V) ce hlt
  obtain ⟨t, a1, b1⟩ := kk (V.setCell q ce).heap ce L1 hL (by rw [size_setCell, hV, hT]) (fun z hz => by rw [heapAt_setCell_ne _ (Ne.symm hz), hV, hT]) hb hcl9 hvm9 (fun k hk => by cases Option.some.inj (hk.symm.trans hkC); exact hsz9) (V.setCell q ce) rfl Z
  exact ⟨t, st t a1, b1⟩
end HZ8
