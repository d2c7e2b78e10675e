/-! ===== CORE 9: Fault's own constructor; methods that may throw it; catching ===== -/
theorem mX8_init (l : Launch) (hl0 : l.stackTraces = false) {τ : hz_T} {D : va_G} {dA : Nat → ClassId} {A : Nat → Prop} {ro loc : Nat → Nat} {S : hz_S} {R : hz_R} {I : hz_I} {L : hz_L} {q : Nat} {v : Int32} : Met l yX8_init (ws_ yX8_init cX8_init 2 none) ({ frames := 4, cells := 0, slots := 0, locals := 80 } : Room) (va_Pc [.ref q, .int v] (fun U => hz_G D dA A ro U ∧ hz_W τ D dA A loc S R I L U.heap ∧ hz_raw D q U U.heap ∧ A q ∧ hz_off S loc q)) (va_Qv (fun (_ : Unit) => True) (fun _ t => hz_W τ D dA A loc S R I L t.heap ∧ hz_ft D q v t.heap) A) 0 0 A := by
  refine Met.ofW (cc := cX8_init) (maxL := 2) (ret := none) (by decide +kernel) rfl ?_
  intro p e s m args below meth c s₁ B hml hv
  obtain ⟨rfl, G, hW, hraw, hA, hoff⟩ := hv
  have hts0 := atoms_spec (ws := ws_ yX8_init cX8_init 2 none) B.pre
  have F : CallFix p m c cX8_init 2 s ([.ref q, .int v] : List Value).toArray lw_all "BehindAnotherHearse$Fault" := ⟨B.exec, B.bytes, hml, findClass_of_methodNamed B.named, fun w h => hts0 w (List.mem_cons_of_mem _ h)⟩
  have hr : meth.sig.returnType = none := B.returns
  have hlk := B.notSynchronized
  have hin : meth.name = "<init>" := (name_of_methodNamed B.named B.method).1
  rw [lg_entry_eq]
  have hl := lv_entry ([.ref q, .int v]) (n := 2) (Nat.le_of_ble_eq_true rfl)
  generalize (lg_sl ([.ref q, .int v]) ++ List.replicate (2 - (lg_sl ([.ref q, .int v])).length) Slot.unset).toArray = ls at hl ⊢
  have hl : lv_has ls 2 [(0, .ref q), (1, .int v)] := hl
  refine lv_aload_n F.1 F.2.1 dX8_init_0 rfl (lv_at hl 0 rfl) ?_
  refine hz_exc0 F hl0 G hraw hl.1 dX8_init_1 ⟨Nat.le_of_ble_eq_true rfl, Nat.le_of_ble_eq_true rfl⟩ (fun H1 ce L1 hL1 hsz ho hce hcl hvm hss => ?_)
  refine lv_aload_n F.1 F.2.1 dX8_init_4 rfl (lv_at hl 0 rfl) ?_
  refine lv_iload_n F.1 F.2.1 dX8_init_5 rfl (lv_at hl 1 rfl) ?_
  obtain ⟨hSl, hfc, kC, hkC, hkind⟩ := G.K.1 14 _ rfl
  obtain ⟨cf, kf, fi, f, hi, hsl⟩ := hSl 6 (by decide)
  have hlay : (Cond.laysFinal "BehindAnotherHearse$Fault" "BehindAnotherHearse$Fault" "at" "I").before ([.ref q, .int v] : List Value).toArray s = true := F.2.2.2.2 _ q442
  have hu := u_facts hfc hkC (Or.inr hlay) hi
  have hcf : m.cls = cf := by
    obtain ⟨_, _, c', _, _, _, -, -, hf', -, -, -, hown2, -⟩ := Cond.laysFinal_spec hlay
    have e1 : c' = cf := by have := hi.symm.trans hf'; simp at this; exact this.1.symm
    rw [← e1]; exact Option.some.inj (F.2.2.2.1.symm.trans hown2)
  have h6 := u_fits (ty := .int) (v := .int v) hfc hkC hkind (Or.inr hlay) hi (by decide +kernel) rfl rfl
  have hlt : f.slot < ce.slots.size := by rw [hss kC hkC]; exact (Array.getElem?_eq_some_iff.mp hu.2.2).1
  refine W.putFinK F.1 F.2.1 F.2.2.2.1 (F.2.2.2.2 _ q435) hi hu.1 hcf hin (by rw [hcl]; exact h6) hce hvm hlt rfl rfl dX8_init_6 fun H' e1 e2 e3 => ?_
  have hq : q < s.heap.size := (Array.getElem?_eq_some_iff.mp (hraw kC hkC)).1
  have ho2 : ∀ z, z ≠ q → H'[z]? = s.heap[z]? := fun z hz => (e3 z hz).trans (ho z hz)
  refine W.vret F.1 F.2.1 hr (fun t ht _ => ⟨⟨(), rfl, trivial, And.intro (by rw [ht]; exact hW.kept fun id h0 hl => ho2 _ (hoff id h0 hl)) (by rw [ht]; exact ⟨_, e1, hcl, hvm, by rw [← hsl]; simp [Cell.setSlot, hlt]⟩)⟩, ⟨by rw [ht, e2, hsz]; exact Nat.le_refl _, fun z _ hz2 => by rw [ht]; exact ho2 z (fun hzq => hz2 (by rw [hzq]; exact hA))⟩⟩) (fun x hx => ?_) dX8_init_9
  rcases List.mem_append.mp hx with hx | hx
  · rw [hL1 x hx]; exact hA
  · rw [List.mem_singleton.mp hx]; exact hA
section HZ9
variable {p : Program} {l : Launch} {e : Env} {Rm : Room} {s : State} {m : MethodId} {args : Array Value} {below : List Frame} {meth : Method} {c : Code} {H : Heap} {locs : List Loc} {cells slots : Nat} {Q : State → Prop}
variable {cc : ByteArray} {own : String} {nL : Nat} {pc : Nat} {ls : Array Slot} {rest : List Value} {τ : hz_T} {D : va_G} {dA : Nat → ClassId} {A : Nat → Prop} {ro loc : Nat → Nat} {S : hz_S} {R : hz_R} {I : hz_I} {L : hz_L}
variable {idx q : Nat} {v : Int32}
theorem hz_initF (F : CallFix p m c cc nL s args lw_all own) (hl0 : l.stackTraces = false) (G : hz_G D dA A ro s) (hW : hz_W τ D dA A loc S R I L H) (hS : va_S A s.heap H locs) (hraw : hz_raw D q s H) (hA : A q) (hoff : hz_off S loc q) (ql : Cond.methodLink own idx yX8_init ∈ lw_all) (hsz : ls.size = nL) (hcat : (rest.map fun v => v.category).sum ≤ 8) (d : decode cc pc = .ok (.invokespecial idx, 3)) (hR : 5 ≤ Rm.frames ∧ 101 ≤ Rm.locals) (hf : cells ≤ Rm.cells ∧ slots ≤ Rm.slots)
    (kk : ∀ (H1 : Heap) (locs1 : List Loc), hz_W τ D dA A loc S R I L H1 → va_S A s.heap H1 locs1 → hz_ft D q v H1 → W p l e Rm s m args below meth c H1 locs1 cells slots Q (F0 m (pc + 3) ls rest)) : W p l e Rm s m args below meth c H locs cells slots Q (F0 m pc ls (.int v :: .ref q :: rest)) := by
  obtain ⟨hfc, kC, hkC, hkind⟩ := (G.K.1 14 _ rfl).2
  refine va_callv (va_runI (As := [.int v]) (rest := rest) F (mX8_init l hl0 (τ := τ) (D := D) (dA := dA) (A := A) (ro := ro) (loc := loc) (S := S) (R := R) (I := I) (L := L) (q := q) (v := v)) (cwI 1 F.2.2.2.2 (lw_meth q430) rfl rfl rfl (F.2.2.2.2 _ q89) (F.2.2.2.2 _ ql) (F.2.2.2.2 _ q429) rfl (by decide +kernel) ⟨hR.1, hR.2⟩) ⟨fun a U g mk z => ⟨z.1, z.2.1.call, z.2.2⟩, fun U hU hw => ⟨rfl, G.go hS hU hw, by rw [hU]; exact hW, by rw [hU]; exact hraw.moved hw.alike ⟨kC, hkC⟩, hA, hoff⟩⟩ rfl rfl hsz rfl (lv_room hcat) d ⟨hf.1, hf.2⟩) hS (fun _ _ h => h) (fun _ h => h) fun u t H1 locs1 ht _ _ hB _ _ hS1 => ?_
  subst ht
  exact kk _ locs1 hB.1 hS1 hB.2
/-- ends of a method that may throw -/
def hz_Qti (out : (Int32 × hz_I) ⊕ (Int32 × hz_I)) (τ : hz_T) (D : va_G) (dA : Nat → ClassId) (A : Nat → Prop) (loc : Nat → Nat) (S : hz_S) (R : hz_R) (L : hz_L) : Array Value → State → Outcome → State → Prop := va_Qi (fun (r : Int32) (u : Int32 × hz_I) => out = .inl u ∧ r = u.1) (fun u t => hz_B τ D dA A loc S R u.2 L t) A
def hz_Qtv (out : hz_I ⊕ (Int32 × hz_I)) (τ : hz_T) (D : va_G) (dA : Nat → ClassId) (A : Nat → Prop) (loc : Nat → Nat) (S : hz_S) (R : hz_R) (L : hz_L) : Array Value → State → Outcome → State → Prop := va_Qv (fun (u : hz_I) => out = .inl u) (fun u t => hz_B τ D dA A loc S R u L t) A
def hz_Qtr (r0 : Nat) (out : hz_I ⊕ (Int32 × hz_I)) (τ : hz_T) (D : va_G) (dA : Nat → ClassId) (A : Nat → Prop) (loc : Nat → Nat) (S : hz_S) (R : hz_R) (L : hz_L) : Array Value → State → Outcome → State → Prop := va_Qr (fun (u : hz_I) => out = .inl u) (fun u b t => b = loc r0 ∧ hz_B τ D dA A loc S R u L t) A
def hz_Xt {α : Type} (out : α ⊕ (Int32 × hz_I)) (τ : hz_T) (D : va_G) (dA : Nat → ClassId) (A : Nat → Prop) (loc : Nat → Nat) (S : hz_S) (R : hz_R) (L : hz_L) : Addr → String → State → State → Prop := hx_X (fun (w : Int32 × hz_I) => out = .inr w) (fun q E w t => E = "BehindAnotherHearse$Fault" ∧ hz_ft D q w.1 t.heap ∧ hz_B τ D dA A loc S R w.2 L t) A
variable {mc ms : Nat} {a : Array Value} {st0 : List Value}
theorem hz_cti {out : (Int32 × hz_I) ⊕ (Int32 × hz_I)} (hr : hx_Run p l e Rm s m args below meth c H locs cells slots mc ms (F0 m pc ls st0) rest (hz_Qti out τ D dA A loc S R L a) (hz_Xt out τ D dA A loc S R L) A) (hS : va_S A s.heap H locs)
    (kx : ∀ (w : Int32 × hz_I) (q : Nat) (H1 : Heap) (locs1 : List Loc), out = .inr w → hz_W τ D dA A loc S R w.2 L H1 → va_S A s.heap H1 locs1 → hz_ft D q w.1 H1 → hx_W p l e Rm s m args below meth c H1 locs1 (cells + mc) (slots + ms) Q (F0 m pc ls rest) q)
    (kk : ∀ (u : Int32 × hz_I) (H1 : Heap) (locs1 : List Loc), out = .inl u → hz_W τ D dA A loc S R u.2 L H1 → va_S A s.heap H1 locs1 → W p l e Rm s m args below meth c H1 locs1 cells slots Q (F0 m (pc + 3) ls (.int u.1 :: rest))) : W p l e Rm s m args below meth c H locs cells slots Q (F0 m pc ls st0) := by
  refine hx_calli hr hS (fun _ _ h => h) (fun _ h => h) (fun _ _ h => h) (fun E ce q9 w t H1 locs1 ht _ hp hB _ _ hS1 _ _ _ => ?_) (fun r u t H1 locs1 ht _ hp hB _ _ hS1 => ?_)
  · subst ht
    exact kx w q9 _ locs1 hp hB.2.2 hS1 hB.2.1
  · subst ht
    obtain ⟨h1, h2⟩ := hp
    subst h2
    exact kk u _ locs1 h1 hB hS1
theorem hz_ctv {out : hz_I ⊕ (Int32 × hz_I)} (hr : hx_Run p l e Rm s m args below meth c H locs cells slots mc ms (F0 m pc ls st0) rest (hz_Qtv out τ D dA A loc S R L a) (hz_Xt out τ D dA A loc S R L) A) (hS : va_S A s.heap H locs)
    (kx : ∀ (w : Int32 × hz_I) (q : Nat) (H1 : Heap) (locs1 : List Loc), out = .inr w → hz_W τ D dA A loc S R w.2 L H1 → va_S A s.heap H1 locs1 → hz_ft D q w.1 H1 → hx_W p l e Rm s m args below meth c H1 locs1 (cells + mc) (slots + ms) Q (F0 m pc ls rest) q)
    (kk : ∀ (u : hz_I) (H1 : Heap) (locs1 : List Loc), out = .inl u → hz_W τ D dA A loc S R u L H1 → va_S A s.heap H1 locs1 → W p l e Rm s m args below meth c H1 locs1 cells slots Q (F0 m (pc + 3) ls rest)) : W p l e Rm s m args below meth c H locs cells slots Q (F0 m pc ls st0) := by
  refine hx_callv hr hS (fun _ _ h => h) (fun _ h => h) (fun _ _ h => h) (fun E ce q9 w t H1 locs1 ht _ hp hB _ _ hS1 _ _ _ => ?_) (fun u t H1 locs1 ht _ hp hB _ _ hS1 => ?_)
  · subst ht
    exact kx w q9 _ locs1 hp hB.2.2 hS1 hB.2.1
  · subst ht
    exact kk u _ locs1 hp hB hS1
theorem hz_er {α β γ : Type} {k : α → Option γ} {x : β → Option γ} {w : β} {z : γ} (h : Sum.elim k x (.inr w) = some z) : x w = some z := h
theorem hz_el {α β γ : Type} {k : α → Option γ} {x : β → Option γ} {u : α} {z : γ} (h : Sum.elim k x (.inl u) = some z) : k u = some z := h
/-- it goes on to the caller -/
theorem hz_outF {α : Type} {out : α ⊕ (Int32 × hz_I)} {Qc : Array Value → State → Outcome → State → Prop} (G : hz_G D dA A ro s) (hex : ∀ x ∈ c.exceptionTable.toList, False) (hlk : meth.locks = false) {w : Int32 × hz_I} (h : some (.inr w) = some out) (hW : hz_W τ D dA A loc S R w.2 L H) (hS : va_S A s.heap H locs) (hft : hz_ft D q w.1 H) (hc : cells ≤ mc) (hs : slots ≤ ms) :
    hx_W p l e Rm s m args below meth c H locs cells slots (hx_MQ below Qc (hz_Xt out τ D dA A loc S R L) args s mc ms A) (F0 m pc ls rest) q := by
  obtain ⟨cell, h1, h2, h3, h4⟩ := hft
  refine hx_out (E := "BehindAnotherHearse$Fault") (ce := cell) (fun x hx => (hex x hx).elim) hlk h1 h3 (by rw [h2]; exact (G.K.1 14 _ rfl).2.1) (fun t ht _ => ?_) hS.2.2 hc hs
  exact ⟨w, (Option.some.inj h).symm, ⟨rfl, ⟨cell, by rw [ht]; exact h1, h2, h3, h4⟩, by unfold hz_B; rw [ht]; exact hW⟩, hS.F ht⟩
theorem hz_throwF {α : Type} {out : α ⊕ (Int32 × hz_I)} {Qc : Array Value → State → Outcome → State → Prop} (F : CallFix p m c cc nL s args lw_all own) (G : hz_G D dA A ro s) (hex : ∀ x ∈ c.exceptionTable.toList, False) (hlk : meth.locks = false) (d : decode cc pc = .ok (.athrow, 1)) (h : some (.inr (v, I)) = some out) (hW : hz_W τ D dA A loc S R I L H) (hS : va_S A s.heap H locs) (hft : hz_ft D q v H) (hc : cells ≤ mc) (hs : slots ≤ ms) :
    W p l e Rm s m args below meth c H locs cells slots (hx_MQ below Qc (hz_Xt out τ D dA A loc S R L) args s mc ms A) (F0 m pc ls (.ref q :: rest)) :=
  hx_athrow F.1 F.2.1 d (hz_outF (w := (v, I)) G hex hlk h hW hS hft hc hs)
/-- thrown where this method catches it -/
theorem hz_throwC (F : CallFix p m c cc nL s args lw_all own) (d : decode cc pc = .ok (.athrow, 1)) (k : hx_W p l e Rm s m args below meth c H locs cells slots Q (F0 m pc ls rest) q) : W p l e Rm s m args below meth c H locs cells slots Q (F0 m pc ls (.ref q :: rest)) := hx_athrow F.1 F.2.1 d k
/-- caught here: x is the first row of the table -/
theorem hz_catch (F : CallFix p m c cc nL s args lw_all own) (G : hz_G D dA A ro s) (x : ExceptionTableEntry) (suf : List ExceptionTableEntry) (ht : c.exceptionTable.toList = x :: suf) (hx : covers x pc = true) (h0 : x.catchType ≠ 0) (ql : Cond.classLink own x.catchType "BehindAnotherHearse$Fault" ∈ lw_all) (hft : hz_ft D q v H)
    (kk : W p l e Rm s m args below meth c H locs cells slots Q (F0 m x.handlerPc ls [.ref q])) : hx_W p l e Rm s m args below meth c H locs cells slots Q (F0 m pc ls rest) q := by
  obtain ⟨cell, h1, h2, h3, h4⟩ := hft
  exact hx_catch F.2.2.2.1 [] x suf ht (fun z hz => absurd hz List.not_mem_nil) hx h0 (F.2.2.2.2 _ ql) ((G.nC 0 rfl : va_Nw (.castable "BehindAnotherHearse$Fault" "BehindAnotherHearse$Fault") s).use rfl) h1 h3 (by rw [h2]; exact (G.K.1 14 _ rfl).2.1) kk
/-- the place of what was caught -/
theorem hz_getx (F : CallFix p m c cc nL s args lw_all own) (G : hz_G D dA A ro s) (hft : hz_ft D q v H) {host : String} (qn : va_Nw (.fieldLinkNest own idx "BehindAnotherHearse$Fault" "at" "I" host) s) (d : decode cc pc = .ok (.getfield idx, 3))
    (kk : W p l e Rm s m args below meth c H locs cells slots Q (F0 m (pc + 3) ls (.int v :: rest))) : W p l e Rm s m args below meth c H locs cells slots Q (F0 m pc ls (.ref q :: rest)) := by
  obtain ⟨cell, h1, h2, h3, h4⟩ := hft
  obtain ⟨hSl, hfc, kC, hkC, hkind⟩ := G.K.1 14 _ rfl
  obtain ⟨cf, kf, fi, f, hi, hsl⟩ := hSl 6 (by decide)
  have hlay : (Cond.laysFinal "BehindAnotherHearse$Fault" "BehindAnotherHearse$Fault" "at" "I").before args s = true := F.2.2.2.2 _ q442
  exact va_Wgetf F.1 F.2.1 F.2.2.2.1 (qn.use rfl) hi (u_facts hfc hkC (Or.inr hlay) hi).1 h1 (by rw [h3]; exact fun h => by cases h) (v := .int v) (by rw [hsl]; exact h4) rfl rfl d kk
/-- returns of a method that may throw -/
theorem hz_tiret {out : (Int32 × hz_I) ⊕ (Int32 × hz_I)} (F : CallFix p m c cc nL s args lw_all own) (hr : meth.sig.returnType = some .int) (hlk : meth.locks = false) (hS : va_S A s.heap H locs) {v : Int32} (hv : some (.inl (v, I)) = some out) (hW : hz_W τ D dA A loc S R I L H) (d : decode cc pc = .ok (.ireturn, 1)) :
    W p l e Rm s m args below meth c H locs 0 0 (hx_MQ below (hz_Qti out τ D dA A loc S R L) (hz_Xt out τ D dA A loc S R L) args s mc ms A) (F0 m pc ls [.int v]) :=
  hx_ret (W.iret F.1 F.2.1 hr (fun t ht _ => ⟨⟨v, (v, I), rfl, ⟨(Option.some.inj hv).symm, rfl⟩, by subst ht; exact hW⟩, hS.F ht⟩) hS.2.2 d)
theorem hz_tvret {out : hz_I ⊕ (Int32 × hz_I)} (F : CallFix p m c cc nL s args lw_all own) (hr : meth.sig.returnType = none) (hlk : meth.locks = false) (hS : va_S A s.heap H locs) (hv : some (.inl I) = some out) (hW : hz_W τ D dA A loc S R I L H) (d : decode cc pc = .ok (.return_, 1)) :
    W p l e Rm s m args below meth c H locs 0 0 (hx_MQ below (hz_Qtv out τ D dA A loc S R L) (hz_Xt out τ D dA A loc S R L) args s mc ms A) (F0 m pc ls []) :=
  hx_ret (W.vret F.1 F.2.1 hr (fun t ht _ => ⟨⟨I, rfl, (Option.some.inj hv).symm, by subst ht; exact hW⟩, hS.F ht⟩) hS.2.2 d)
end HZ9
section HZ9s
variable {l : Launch} {τ : hz_T} {D : va_G} {dA : Nat → ClassId} {A : Nat → Prop} {ro loc : Nat → Nat} {S : hz_S} {R : hz_R} {I : hz_I} {L : hz_L}
theorem hz_startX {y : MethodName} {cc : ByteArray} {maxL : Nat} {ret : Option FieldType} {rm : Room} {av : List Value} {Qc : Array Value → State → Outcome → State → Prop} {XC : Addr → String → State → State → Prop} {mc ms : Nat} {own : String} (ho : y.cls = own) (hy : plainName own = true) (hlen : Nat.ble (lg_sl av).length maxL = true)
    (body : ∀ (p : Program) (e : Env) (s : State) (m : MethodId) (below : List Frame) (meth : Method) (c : Code) (ls : Array Slot), CallFix p m c cc maxL s av.toArray lw_all own → hz_G D dA A ro s → meth.sig.returnType = ret → meth.locks = false → (∀ x ∈ c.exceptionTable.toList, False) → hz_W τ D dA A loc S R I L s.heap → va_S A s.heap s.heap [] → lv_has ls maxL (lv_args 0 av) →
      W p l e rm s m av.toArray below meth c s.heap [] 0 0 (hx_MQ below Qc XC av.toArray s mc ms A) (F0 m 0 ls [])) : hx_Met l y (ws_ y cc maxL ret) rm (hz_P τ D dA A ro loc S R I L av) Qc XC mc ms A := by
  subst ho
  refine hx_ofW (cc := cc) (maxL := maxL) (ret := ret) hy rfl ?_
  intro p e s m args below meth c s₁ B hml hex hv
  obtain ⟨rfl, G, hW⟩ := hv
  have hts0 := atoms_spec (ws := ws_ y cc maxL ret) B.pre
  have hts : ∀ w ∈ lw_all, w.before av.toArray s = true := fun w h => hts0 w (List.mem_cons_of_mem _ h)
  rw [lg_entry_eq]
  exact body p e s m below meth c _ ⟨B.exec, B.bytes, hml, findClass_of_methodNamed B.named, hts⟩ G B.returns B.notSynchronized hex hW va_S.rf (lv_entry av (Nat.le_of_ble_eq_true hlen))
end HZ9s
