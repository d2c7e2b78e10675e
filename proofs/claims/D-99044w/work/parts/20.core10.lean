/-! ===== CORE 10: calls of methods that may throw, of methods that need a cell's room only, of methods of the class above ===== -/
theorem lw_U {own : String} {idx : Nat} {C owner : String} {x y : MethodName} {b : ByteArray} {L : Nat} {r : Option FieldType} (h1 : Cond.methodLink own idx x ∈ lw_all) (h2 : Cond.sameMethod x.cls owner x.name x.desc ∈ lw_all) (h3 : Cond.selects C x y ∈ lw_all) (h4 : Cond.instanceMethod y ∈ lw_all) (h5 : Cond.initialized y.cls ∈ lw_all) (h6 : Cond.code y b L r ∈ lw_all) : GoodIn lw_all (va_wsU own idx C owner x y (ws_ y b L r)) := by
  unfold va_wsU
  refine lw_app (fun w hw => ?_) (lw_meth h6)
  simp only [List.mem_cons, List.not_mem_nil, or_false] at hw
  rcases hw with rfl | rfl | rfl | rfl | rfl
  · exact h1
  · exact h2
  · exact h3
  · exact h4
  · exact h5
theorem lw_O {own : String} {idx : Nat} {C owner : String} {x y : MethodName} {b : ByteArray} {L : Nat} {r : Option FieldType} (h1 : Cond.methodLink own idx x ∈ lw_all) (h2 : Cond.sameMethod x.cls owner x.name x.desc ∈ lw_all) (h0 : Cond.instanceMethod ⟨owner, x.name, x.desc⟩ ∈ lw_all) (h3 : Cond.selects C x y ∈ lw_all) (h4 : Cond.instanceMethod y ∈ lw_all) (h5 : Cond.initialized y.cls ∈ lw_all) (h6 : Cond.code y b L r ∈ lw_all) : GoodIn lw_all (va_wsO own idx C owner x y (ws_ y b L r)) := by
  unfold va_wsO
  refine lw_app (fun w hw => ?_) (lw_meth h6)
  simp only [List.mem_cons, List.not_mem_nil, or_false] at hw
  rcases hw with rfl | rfl | rfl | rfl | rfl | rfl
  · exact h1
  · exact h2
  · exact h0
  · exact h3
  · exact h4
  · exact h5
/-- it doesn't throw -/
def hz_X0 : Addr → String → State → State → Prop := hx_X (fun _ : Unit => False) (fun _ _ _ _ => False) (fun _ => False)
section HZ10
variable {p : Program} {l : Launch} {e : Env} {Rm : Room} {s : State} {m : MethodId} {args : Array Value} {below : List Frame} {meth : Method} {c : Code} {H : Heap} {locs : List Loc} {cells slots : Nat} {Q : State → Prop}
variable {cc : ByteArray} {own : String} {nL : Nat} {pc : Nat} {ls : Array Slot} {rest st0 : List Value} {τ : hz_T} {D : va_G} {dA : Nat → ClassId} {A : Nat → Prop} {ro loc : Nat → Nat} {S : hz_S} {R : hz_R} {I : hz_I} {L : hz_L}
variable {x y : MethodName} {bytes : ByteArray} {maxL n idx id κ n0 mc ms : Nat} {ret : Option FieldType} {rm : Room} {Qc : Array Value → State → Outcome → State → Prop} {XC : Addr → String → State → State → Prop} {As : List Value} {C owner host : String} {T : u_T} {N : Nat}
/-- a method of a class above, by the receiver -/
theorem hz_runU (F : CallFix p m c cc nL s args lw_all own) (G : hz_G D dA A ro s) (hW : hz_W τ D dA A loc S R I L H) (hS : va_S A s.heap H locs)
    (hM : Met l y (ws_ y bytes maxL ret) rm (hz_P τ D dA A ro loc S R I L (.ref (loc id) :: As)) Qc mc ms A) (hrm : rm.cells = mc ∧ rm.slots = ms) (hw : GoodIn lw_all (va_wsU own idx C owner x y (ws_ y bytes maxL ret))) (hk : hz_ob τ S id κ n0) (h40 : κ < 40) (hc : hz_cl[κ]? = some (C, T, N)) (hyx : y = ⟨owner, x.name, x.desc⟩)
    (hd : owner ≠ "java/lang/invoke/MethodHandle" ∧ owner ≠ "java/lang/invoke/VarHandle" ∧ (parseMethodDescriptor x.desc).map (fun d => d.parameters.length) = some n) (hR : rm.frames + 1 ≤ Rm.frames ∧ 8 + (maxL + 11) + rm.locals ≤ Rm.locals)
    (hn : As.length = n) (hl : ls.size = nL) (hst : st0 = As.reverse ++ .ref (loc id) :: rest) (hcat : (rest.map fun v => v.category).sum ≤ 8) (d : decode cc pc = .ok (.invokevirtual idx, 3)) (hf : cells + mc ≤ Rm.cells ∧ slots + ms ≤ Rm.slots) :
    va_Run p l e Rm s m args below meth c H locs cells slots mc ms (F0 m pc ls st0) rest (Qc (Value.ref (loc id) :: As).toArray) A :=
  va_runU (As := As) (rest := rest) F hM (va_cwU n F.2.2.2.2 hw rfl hrm.1 hrm.2 hyx hd hR) ⟨hz_P.blind, hz_recv G hW hk h40 hc, hz_P.pay G hS hW⟩ rfl hn hl hst (lv_room hcat) d hf
/-- the same, of methods that may throw -/
theorem hz_xU (F : CallFix p m c cc nL s args lw_all own) (G : hz_G D dA A ro s) (hW : hz_W τ D dA A loc S R I L H) (hS : va_S A s.heap H locs)
    (hM : hx_Met l y (ws_ y bytes maxL ret) rm (hz_P τ D dA A ro loc S R I L (.ref (loc id) :: As)) Qc XC mc ms A) (hrm : rm.cells = mc ∧ rm.slots = ms) (hw : GoodIn lw_all (va_wsU own idx C owner x y (ws_ y bytes maxL ret))) (hk : hz_ob τ S id κ n0) (h40 : κ < 40) (hc : hz_cl[κ]? = some (C, T, N)) (hyx : y = ⟨owner, x.name, x.desc⟩)
    (hd : owner ≠ "java/lang/invoke/MethodHandle" ∧ owner ≠ "java/lang/invoke/VarHandle" ∧ (parseMethodDescriptor x.desc).map (fun d => d.parameters.length) = some n) (hR : rm.frames + 1 ≤ Rm.frames ∧ 8 + (maxL + 11) + rm.locals ≤ Rm.locals)
    (hn : As.length = n) (hl : ls.size = nL) (hst : st0 = As.reverse ++ .ref (loc id) :: rest) (hcat : (rest.map fun v => v.category).sum ≤ 8) (d : decode cc pc = .ok (.invokevirtual idx, 3)) (hf : cells + mc ≤ Rm.cells ∧ slots + ms ≤ Rm.slots) :
    hx_Run p l e Rm s m args below meth c H locs cells slots mc ms (F0 m pc ls st0) rest (Qc (Value.ref (loc id) :: As).toArray) XC A :=
  hx_runU (As := As) (rest := rest) F hM (va_cwU n F.2.2.2.2 hw rfl hrm.1 hrm.2 hyx hd hR) ⟨hz_P.blind, hz_recv G hW hk h40 hc, hz_P.pay G hS hW⟩ rfl hn hl hst (lv_room hcat) d hf
/-- an overriding method -/
theorem hz_xO (F : CallFix p m c cc nL s args lw_all own) (G : hz_G D dA A ro s) (hW : hz_W τ D dA A loc S R I L H) (hS : va_S A s.heap H locs)
    (hM : hx_Met l y (ws_ y bytes maxL ret) rm (hz_P τ D dA A ro loc S R I L (.ref (loc id) :: As)) Qc XC mc ms A) (hrm : rm.cells = mc ∧ rm.slots = ms) (hw : GoodIn lw_all (va_wsO own idx C owner x y (ws_ y bytes maxL ret))) {b0 : ByteArray} {m0 : Nat} {r0 : Option FieldType} (h0 : Cond.code ⟨owner, x.name, x.desc⟩ b0 m0 r0 ∈ lw_all) (hk : hz_ob τ S id κ n0) (h40 : κ < 40) (hc : hz_cl[κ]? = some (C, T, N))
    (hd : owner ≠ "java/lang/invoke/MethodHandle" ∧ owner ≠ "java/lang/invoke/VarHandle" ∧ (parseMethodDescriptor x.desc).map (fun d => d.parameters.length) = some n) (hR : rm.frames + 1 ≤ Rm.frames ∧ 8 + (maxL + 11) + rm.locals ≤ Rm.locals)
    (hn : As.length = n) (hl : ls.size = nL) (hst : st0 = As.reverse ++ .ref (loc id) :: rest) (hcat : (rest.map fun v => v.category).sum ≤ 8) (d : decode cc pc = .ok (.invokevirtual idx, 3)) (hf : cells + mc ≤ Rm.cells ∧ slots + ms ≤ Rm.slots) :
    hx_Run p l e Rm s m args below meth c H locs cells slots mc ms (F0 m pc ls st0) rest (Qc (Value.ref (loc id) :: As).toArray) XC A :=
  hx_runU (As := As) (rest := rest) F hM (va_cwO n F.2.2.2.2 hw rfl hrm.1 hrm.2 h0 hd hR) ⟨hz_P.blind, hz_recv G hW hk h40 hc, hz_P.pay G hS hW⟩ rfl hn hl hst (lv_room hcat) d hf
theorem hz_runO (F : CallFix p m c cc nL s args lw_all own) (G : hz_G D dA A ro s) (hW : hz_W τ D dA A loc S R I L H) (hS : va_S A s.heap H locs)
    (hM : Met l y (ws_ y bytes maxL ret) rm (hz_P τ D dA A ro loc S R I L (.ref (loc id) :: As)) Qc mc ms A) (hrm : rm.cells = mc ∧ rm.slots = ms) (hw : GoodIn lw_all (va_wsO own idx C owner x y (ws_ y bytes maxL ret))) {b0 : ByteArray} {m0 : Nat} {r0 : Option FieldType} (h0 : Cond.code ⟨owner, x.name, x.desc⟩ b0 m0 r0 ∈ lw_all) (hk : hz_ob τ S id κ n0) (h40 : κ < 40) (hc : hz_cl[κ]? = some (C, T, N))
    (hd : owner ≠ "java/lang/invoke/MethodHandle" ∧ owner ≠ "java/lang/invoke/VarHandle" ∧ (parseMethodDescriptor x.desc).map (fun d => d.parameters.length) = some n) (hR : rm.frames + 1 ≤ Rm.frames ∧ 8 + (maxL + 11) + rm.locals ≤ Rm.locals)
    (hn : As.length = n) (hl : ls.size = nL) (hst : st0 = As.reverse ++ .ref (loc id) :: rest) (hcat : (rest.map fun v => v.category).sum ≤ 8) (d : decode cc pc = .ok (.invokevirtual idx, 3)) (hf : cells + mc ≤ Rm.cells ∧ slots + ms ≤ Rm.slots) :
    va_Run p l e Rm s m args below meth c H locs cells slots mc ms (F0 m pc ls st0) rest (Qc (Value.ref (loc id) :: As).toArray) A :=
  va_runU (As := As) (rest := rest) F hM (va_cwO n F.2.2.2.2 hw rfl hrm.1 hrm.2 h0 hd hR) ⟨hz_P.blind, hz_recv G hW hk h40 hc, hz_P.pay G hS hW⟩ rfl hn hl hst (lv_room hcat) d hf
theorem hz_xV (F : CallFix p m c cc nL s args lw_all own) (G : hz_G D dA A ro s) (hW : hz_W τ D dA A loc S R I L H) (hS : va_S A s.heap H locs)
    (hM : hx_Met l y (ws_ y bytes maxL ret) rm (hz_P τ D dA A ro loc S R I L (.ref (loc id) :: As)) Qc XC mc ms A) (hrm : rm.cells = mc ∧ rm.slots = ms) (hw : GoodIn lw_all (wsV own idx C y (ws_ y bytes maxL ret))) (hk : hz_ob τ S id κ n0) (h40 : κ < 40) (hc : hz_cl[κ]? = some (C, T, N))
    (hd : y.cls = C ∧ y.cls ≠ "java/lang/invoke/MethodHandle" ∧ y.cls ≠ "java/lang/invoke/VarHandle" ∧ (parseMethodDescriptor y.desc).map (fun d => d.parameters.length) = some n) (hR : rm.frames + 1 ≤ Rm.frames ∧ 8 + (maxL + 11) + rm.locals ≤ Rm.locals)
    (hn : As.length = n) (hl : ls.size = nL) (hst : st0 = As.reverse ++ .ref (loc id) :: rest) (hcat : (rest.map fun v => v.category).sum ≤ 8) (d : decode cc pc = .ok (.invokevirtual idx, 3)) (hf : cells + mc ≤ Rm.cells ∧ slots + ms ≤ Rm.slots) :
    hx_Run p l e Rm s m args below meth c H locs cells slots mc ms (F0 m pc ls st0) rest (Qc (Value.ref (loc id) :: As).toArray) XC A :=
  hx_runV (As := As) (rest := rest) F hM (cwV n F.2.2.2.2 hw rfl hrm.1 hrm.2 hd hR) ⟨hz_P.blind, hz_recv G hW hk h40 hc, hz_P.pay G hS hW⟩ rfl hn hl hst (lv_room hcat) d hf
theorem hz_xVN (F : CallFix p m c cc nL s args lw_all own) (G : hz_G D dA A ro s) (hW : hz_W τ D dA A loc S R I L H) (hS : va_S A s.heap H locs)
    (hM : hx_Met l y (ws_ y bytes maxL ret) rm (hz_P τ D dA A ro loc S R I L (.ref (loc id) :: As)) Qc XC mc ms A) (hrm : rm.cells = mc ∧ rm.slots = ms) (qc : Cond.code y bytes maxL ret ∈ lw_all) (ql : va_Nw (.methodLinkNest own idx y host) s) (qi : Cond.instanceMethod y ∈ lw_all) (qs : Cond.selects C y y ∈ lw_all) (qn : Cond.initialized y.cls ∈ lw_all) (hk : hz_ob τ S id κ n0) (h40 : κ < 40) (hc : hz_cl[κ]? = some (C, T, N))
    (hd : y.cls ≠ "java/lang/invoke/MethodHandle" ∧ y.cls ≠ "java/lang/invoke/VarHandle" ∧ (parseMethodDescriptor y.desc).map (fun d => d.parameters.length) = some n) (hR : rm.frames + 1 ≤ Rm.frames ∧ 8 + (maxL + 11) + rm.locals ≤ Rm.locals)
    (hn : As.length = n) (hl : ls.size = nL) (hst : st0 = As.reverse ++ .ref (loc id) :: rest) (hcat : (rest.map fun v => v.category).sum ≤ 8) (d : decode cc pc = .ok (.invokevirtual idx, 3)) (hf : cells + mc ≤ Rm.cells ∧ slots + ms ≤ Rm.slots) :
    hx_Run p l e Rm s m args below meth c H locs cells slots mc ms (F0 m pc ls st0) rest (Qc (Value.ref (loc id) :: As).toArray) XC A :=
  hx_runVN (As := As) (rest := rest) F hM ⟨va_cnB n F.2.2.2.2 (lw_meth qc) rfl hrm.1 hrm.2 ql (F.2.2.2.2 _ qn) hd hR, F.2.2.2.2 _ qi, F.2.2.2.2 _ qs⟩ ⟨hz_P.blind, hz_recv G hW hk h40 hc, hz_P.pay G hS hW⟩ rfl hn hl hst (lv_room hcat) d hf
/-! after a call that doesn't throw -/
variable {a : Array Value} {R' : hz_R} {I' : hz_I} {L' : hz_L}
theorem hz_c0i {r0 : Int32} (hr : hx_Run p l e Rm s m args below meth c H locs cells slots mc ms (F0 m pc ls st0) rest (hz_Qi r0 τ D dA A loc S R' I' L' a) hz_X0 A) (hS : va_S A s.heap H locs)
    (kk : ∀ (H1 : Heap) (locs1 : List Loc), hz_W τ D dA A loc S R' I' L' H1 → va_S A s.heap H1 locs1 → W p l e Rm s m args below meth c H1 locs1 cells slots Q (F0 m (pc + 3) ls (.int r0 :: rest))) : W p l e Rm s m args below meth c H locs cells slots Q (F0 m pc ls st0) := by
  refine hx_calli hr hS (fun _ _ h => h) (fun _ h => h) (fun _ _ h => h.elim) (fun E ce q9 w t H1 locs1 ht _ hp hB _ _ hS1 _ _ _ => hp.elim) (fun r u t H1 locs1 ht _ hp hB _ _ hS1 => ?_)
  subst hp
  subst ht
  exact kk _ locs1 hB hS1
theorem hz_c0v (hr : hx_Run p l e Rm s m args below meth c H locs cells slots mc ms (F0 m pc ls st0) rest (hz_Qv τ D dA A loc S R' I' L' a) hz_X0 A) (hS : va_S A s.heap H locs)
    (kk : ∀ (H1 : Heap) (locs1 : List Loc), hz_W τ D dA A loc S R' I' L' H1 → va_S A s.heap H1 locs1 → W p l e Rm s m args below meth c H1 locs1 cells slots Q (F0 m (pc + 3) ls rest)) : W p l e Rm s m args below meth c H locs cells slots Q (F0 m pc ls st0) := by
  refine hx_callv hr hS (fun _ _ h => h) (fun _ h => h) (fun _ _ h => h.elim) (fun E ce q9 w t H1 locs1 ht _ hp hB _ _ hS1 _ _ _ => hp.elim) (fun u t H1 locs1 ht _ hp hB _ _ hS1 => ?_)
  subst ht
  exact kk _ locs1 hB hS1
end HZ10
section HZ10b
variable {p : Program} {l : Launch} {e : Env} {Rm : Room} {s : State} {m : MethodId} {args : Array Value} {below : List Frame} {meth : Method} {c : Code} {H : Heap} {locs : List Loc} {cells slots : Nat} {Q : State → Prop}
variable {cc : ByteArray} {own : String} {nL : Nat} {pc : Nat} {ls : Array Slot} {rest st0 : List Value} {D : va_G} {dA : Nat → ClassId} {A : Nat → Prop} {ro loc : Nat → Nat}
variable {idx id j : Nat}
/-- a text's constant is the string of that number -/
theorem hz_ldcS {tx : String} (F : CallFix p m c cc nL s args lw_all own) (q : vk_R own idx tx (ro j) s) (hro : loc id = ro j) (d : decode cc pc = .ok (.ldc idx, 2))
    (kk : W p l e Rm s m args below meth c H locs cells slots Q (F0 m (pc + 2) ls (.ref (loc id) :: rest))) : W p l e Rm s m args below meth c H locs cells slots Q (F0 m pc ls rest) :=
  va_ldcS F.1 F.2.1 F.2.2.2.1 q d (by rw [← hro]; exact kk)
theorem hz_compact (F : CallFix p m c cc nL s args lw_all own) (G : hz_G D dA A ro s) (hS : va_S A s.heap H locs) (q : Cond.fieldLink own idx "java/lang/String" "COMPACT_STRINGS" "Z" ∈ lw_all) (d : decode cc pc = .ok (.getstatic idx, 3))
    (kk : W p l e Rm s m args below meth c H locs cells slots Q (F0 m (pc + 3) ls (.int 1 :: rest))) : W p l e Rm s m args below meth c H locs cells slots Q (F0 m pc ls rest) :=
  va_gets F.1 F.2.1 G.Z hS F.2.2.2.1 (F.2.2.2.2 _ q) (fun _ h => h) d kk
/-- the formatter, whatever it is -/
theorem hz_siobe (F : CallFix p m c cc nL s args lw_all own) (G : hz_G D dA A ro s) (hS : va_S A s.heap H locs) (q : Cond.fieldLink own idx "jdk/internal/util/Preconditions" "SIOOBE_FORMATTER" "Ljava/util/function/BiFunction;" ∈ lw_all) (d : decode cc pc = .ok (.getstatic idx, 3))
    (kk : ∀ (v : Value), v.category = 1 → W p l e Rm s m args below meth c H locs cells slots Q (F0 m (pc + 3) ls (v :: rest))) : W p l e Rm s m args below meth c H locs cells slots Q (F0 m pc ls rest) := by
  rcases G.Zs with h | ⟨t, h⟩
  · exact va_gets F.1 F.2.1 h hS F.2.2.2.1 (F.2.2.2.2 _ q) (fun _ h => h) d (kk _ rfl)
  · exact va_gets F.1 F.2.1 h hS F.2.2.2.1 (F.2.2.2.2 _ q) (fun _ h => h) d (kk _ rfl)
theorem hz_no {α : Prop} {γ : Type} {x : γ} (h : (none : Option γ) = some x) : α := nomatch h
end HZ10b
/-- where the texts stand: the component's world, the model's -/
def hz_lc (loc ro : Nat → Nat) : Prop := loc 178 = ro 2 ∧ loc 180 = ro 6
def hz_lm (loc ro : Nat → Nat) : Prop := ∀ j, j < 8 → loc (33 + 2 * j) = ro j
/-- a reference returned, nothing made -/
def hz_Qr (r0 : Nat) (τ : hz_T) (D : va_G) (dA : Nat → ClassId) (A : Nat → Prop) (loc : Nat → Nat) (S : hz_S) (R : hz_R) (I : hz_I) (L : hz_L) : Array Value → State → Outcome → State → Prop := va_Qr (fun (_ : Unit) => True) (fun _ b t => b = loc r0 ∧ hz_B τ D dA A loc S R I L t) A
theorem hz_nb_byte {v : Int32} (h : vp_nar .byte v = v) : narrow .byte (.int v) = .int v := congrArg Value.int h
theorem hz_nb_char {v : Int32} (h : vp_nar .char v = v) : narrow .char (.int v) = .int v := congrArg Value.int h
theorem hz_nb_short {v : Int32} (h : vp_nar .short v = v) : narrow .short (.int v) = .int v := congrArg Value.int h
section HZ10c
variable {p : Program} {l : Launch} {e : Env} {Rm : Room} {s : State} {m : MethodId} {args : Array Value} {below : List Frame} {meth : Method} {c : Code} {H : Heap} {locs : List Loc} {cells slots : Nat} {Q : State → Prop}
variable {cc : ByteArray} {own : String} {nL : Nat} {pc : Nat} {ls : Array Slot} {rest st0 : List Value} {τ : hz_T} {D : va_G} {dA : Nat → ClassId} {A : Nat → Prop} {ro loc : Nat → Nat} {S : hz_S} {R R' : hz_R} {I I' : hz_I} {L L' : hz_L}
variable {y : MethodName} {bytes : ByteArray} {maxL n idx id κ n0 mc ms : Nat} {ret : Option FieldType} {rm : Room} {Qc : Array Value → State → Outcome → State → Prop} {XC : Addr → String → State → State → Prop} {As : List Value} {C : String} {T : u_T} {N : Nat} {a : Array Value}
theorem hx_callr {S SX : Type} {post : S → Prop} {px : SX → Prop} {B : S → Nat → State → Prop} {BX : Addr → String → SX → State → Prop} {AX A0 A1 : Nat → Prop} {H0 : Heap} {free : Addr → Prop} (hr : hx_Run p l e Rm s m args below meth c H locs cells slots mc ms (F0 m pc ls st0) rest (va_Qr post B A1 a) (hx_X px BX AX) free) (hS : va_S A0 H0 H locs) (hA : ∀ q, q < H.size → A1 q → A0 q) (hf : ∀ q, free q → A0 q) (hAX : ∀ q, q < H.size → AX q → A0 q)
    (kx : ∀ (E : String) (ce : Cell) (q9 : Addr) (u : SX) (t : State) (H1 : Heap) (locs1 : List Loc), t.heap = H1 → s.vm.Alike t.vm → px u → BX q9 E u t → H.size ≤ H1.size → (∀ q : Nat, q < H.size → ¬ AX q → H1[q]? = H[q]?) → va_S A0 H0 H1 locs1 → H1[q9]? = some ce → ce.vm = .none → s.vm.findClass E = some ce.cls → hx_W p l e Rm s m args below meth c H1 locs1 (cells + mc) (slots + ms) Q (F0 m pc ls rest) q9)
    (kk : ∀ (u : S) (b : Nat) (t : State) (H1 : Heap) (locs1 : List Loc), t.heap = H1 → s.vm.Alike t.vm → post u → B u b t → H.size ≤ H1.size → (∀ q : Nat, q < H.size → ¬ A1 q → H1[q]? = H[q]?) → va_S A0 H0 H1 locs1 → W p l e Rm s m args below meth c H1 locs1 cells slots Q (F0 m (pc + 3) ls (.ref b :: rest))) : W p l e Rm s m args below meth c H locs cells slots Q (F0 m pc ls st0) := by
  intro T hT X
  rcases hr T hT X with ⟨v, st₀, t, T', L, h0, X', hL, e1, e2, ⟨⟨u, b, hv, hp, hb⟩, hF⟩, st⟩ | ⟨q, st₀, t, T', L, E, ce, h0, X', hL, e1, e2, ⟨u, hp, hb, hF⟩, hce, hcv, hcl, st⟩
  · cases hv
    obtain ⟨k1, k2, k3⟩ := hx_keep h0 e1 hS hA hf hL hF
    obtain ⟨t2, a1, b1⟩ := kk u b t T'.heap (locs ++ L) e1.symm (by rw [← e2]; exact X'.warmed.alike) hp hb k1 k2 k3 T' rfl X'
    exact ⟨t2, st t2 a1, b1⟩
  · obtain ⟨k1, k2, k3⟩ := hx_keep h0 e1 hS hAX hf hL hF
    obtain ⟨t2, a1, b1⟩ := kx E ce q u t T'.heap (locs ++ L) e1.symm (by rw [← e2]; exact X'.warmed.alike) hp hb k1 k2 k3 (by rw [e1]; exact hce) hcv hcl T' rfl X'
    exact ⟨t2, st.trans a1, b1⟩
theorem hz_c0r {r0 : Nat} (hr : hx_Run p l e Rm s m args below meth c H locs cells slots mc ms (F0 m pc ls st0) rest (hz_Qr r0 τ D dA A loc S R' I' L' a) hz_X0 A) (hS : va_S A s.heap H locs)
    (kk : ∀ (H1 : Heap) (locs1 : List Loc), hz_W τ D dA A loc S R' I' L' H1 → va_S A s.heap H1 locs1 → W p l e Rm s m args below meth c H1 locs1 cells slots Q (F0 m (pc + 3) ls (.ref (loc r0) :: rest))) : W p l e Rm s m args below meth c H locs cells slots Q (F0 m pc ls st0) := by
  refine hx_callr hr hS (fun _ _ h => h) (fun _ h => h) (fun _ _ h => h.elim) (fun E ce q9 w t H1 locs1 ht _ hp hB _ _ hS1 _ _ _ => hp.elim) (fun u b t H1 locs1 ht _ hp hB _ _ hS1 => ?_)
  subst ht
  rw [hB.1]
  exact kk _ locs1 hB.2 hS1
theorem hz_cr {r0 : Nat} (hr : va_Run p l e Rm s m args below meth c H locs cells slots 0 0 (F0 m pc ls st0) rest (hz_Qr r0 τ D dA A loc S R' I' L' a) A) (hS : va_S A s.heap H locs)
    (kk : ∀ (H1 : Heap) (locs1 : List Loc), hz_W τ D dA A loc S R' I' L' H1 → va_S A s.heap H1 locs1 → W p l e Rm s m args below meth c H1 locs1 cells slots Q (F0 m (pc + 3) ls (.ref (loc r0) :: rest))) : W p l e Rm s m args below meth c H locs cells slots Q (F0 m pc ls st0) := by
  refine va_callr hr hS (fun _ _ h => h) (fun _ h => h) (fun u b t H1 locs1 ht _ hp hB _ _ hS1 => ?_)
  subst ht
  rw [hB.1]
  exact kk _ locs1 hB.2 hS1
theorem hz_ctr {r0 : Nat} {out : hz_I ⊕ (Int32 × hz_I)} (hr : hx_Run p l e Rm s m args below meth c H locs cells slots mc ms (F0 m pc ls st0) rest (hz_Qtr r0 out τ D dA A loc S R L a) (hz_Xt out τ D dA A loc S R L) A) (hS : va_S A s.heap H locs)
    (kx : ∀ (w : Int32 × hz_I) (q : Nat) (H1 : Heap) (locs1 : List Loc), out = .inr w → hz_W τ D dA A loc S R w.2 L H1 → va_S A s.heap H1 locs1 → hz_ft D q w.1 H1 → hx_W p l e Rm s m args below meth c H1 locs1 (cells + mc) (slots + ms) Q (F0 m pc ls rest) q)
    (kk : ∀ (u : hz_I) (H1 : Heap) (locs1 : List Loc), out = .inl u → hz_W τ D dA A loc S R u L H1 → va_S A s.heap H1 locs1 → W p l e Rm s m args below meth c H1 locs1 cells slots Q (F0 m (pc + 3) ls (.ref (loc r0) :: rest))) : W p l e Rm s m args below meth c H locs cells slots Q (F0 m pc ls st0) := by
  refine hx_callr hr hS (fun _ _ h => h) (fun _ h => h) (fun _ _ h => h) (fun E ce q9 w t H1 locs1 ht _ hp hB _ _ hS1 _ _ _ => ?_) (fun u b t H1 locs1 ht _ hp hB _ _ hS1 => ?_)
  · subst ht
    exact kx w q9 _ locs1 hp hB.2.2 hS1 hB.2.1
  · subst ht
    rw [hB.1]
    exact kk u _ locs1 hp hB.2 hS1
theorem hz_rret {rt : String} {r0 : Nat} (F : CallFix p m c cc nL s args lw_all own) (hr : meth.sig.returnType = some (.object rt)) (hlk : meth.locks = false) (hS : va_S A s.heap H locs) (hW : hz_W τ D dA A loc S R I L H) (d : decode cc pc = .ok (.areturn, 1)) :
    W p l e Rm s m args below meth c H locs cells slots (MQ below (hz_Qr r0 τ D dA A loc S R I L) args s cells slots A) (F0 m pc ls [.ref (loc r0)]) :=
  W.aret F.1 F.2.1 hr (Or.inl ⟨rt, rfl⟩) (Or.inr ⟨_, rfl⟩) (fun t ht _ => ⟨⟨(), loc r0, rfl, trivial, rfl, by subst ht; exact hW⟩, hS.F ht⟩) hS.2.2 d
theorem hz_trret {rt : String} {r0 : Nat} {out : hz_I ⊕ (Int32 × hz_I)} (F : CallFix p m c cc nL s args lw_all own) (hr : meth.sig.returnType = some (.object rt)) (hlk : meth.locks = false) (hS : va_S A s.heap H locs) (hv : some (.inl I) = some out) (hW : hz_W τ D dA A loc S R I L H) (d : decode cc pc = .ok (.areturn, 1)) :
    W p l e Rm s m args below meth c H locs 0 0 (hx_MQ below (hz_Qtr r0 out τ D dA A loc S R L) (hz_Xt out τ D dA A loc S R L) args s mc ms A) (F0 m pc ls [.ref (loc r0)]) :=
  hx_ret (W.aret F.1 F.2.1 hr (Or.inl ⟨rt, rfl⟩) (Or.inr ⟨_, rfl⟩) (fun t ht _ => ⟨⟨I, loc r0, rfl, (Option.some.inj hv).symm, rfl, by subst ht; exact hW⟩, hS.F ht⟩) hS.2.2 d)
theorem hz_nret {ty : FieldType} (F : CallFix p m c cc nL s args lw_all own) (hr : meth.sig.returnType = some ty) (hlk : meth.locks = false) (hS : va_S A s.heap H locs) {v r0 : Int32} (hv : v = r0) (hb : narrow ty (.int v) = .int v) (hW : hz_W τ D dA A loc S R I L H) (d : decode cc pc = .ok (.ireturn, 1)) :
    W p l e Rm s m args below meth c H locs cells slots (MQ below (hz_Qi r0 τ D dA A loc S R I L) args s cells slots A) (F0 m pc ls [.int v]) := by
  subst hv
  exact W.zret F.1 F.2.1 hr hb (fun t ht _ => ⟨⟨v, (), rfl, rfl, by subst ht; exact hW⟩, hS.F ht⟩) hS.2.2 d
/-- a method with a table of its own: called; begun -/
theorem hz_xVW {hh : List (Nat × Nat × Nat × Nat)} (F : CallFix p m c cc nL s args lw_all own) (G : hz_G D dA A ro s) (hW : hz_W τ D dA A loc S R I L H) (hS : va_S A s.heap H locs)
    (hM : hx_Met l y (wsW_ y bytes maxL ret hh) rm (hz_P τ D dA A ro loc S R I L (.ref (loc id) :: As)) Qc XC mc ms A) (hrm : rm.cells = mc ∧ rm.slots = ms) (hw : GoodIn lw_all (wsV own idx C y (wsW_ y bytes maxL ret hh))) (hk : hz_ob τ S id κ n0) (h40 : κ < 40) (hc : hz_cl[κ]? = some (C, T, N))
    (hd : y.cls = C ∧ y.cls ≠ "java/lang/invoke/MethodHandle" ∧ y.cls ≠ "java/lang/invoke/VarHandle" ∧ (parseMethodDescriptor y.desc).map (fun d => d.parameters.length) = some n) (hR : rm.frames + 1 ≤ Rm.frames ∧ 8 + (maxL + 11) + rm.locals ≤ Rm.locals)
    (hn : As.length = n) (hl : ls.size = nL) (hst : st0 = As.reverse ++ .ref (loc id) :: rest) (hcat : (rest.map fun v => v.category).sum ≤ 8) (d : decode cc pc = .ok (.invokevirtual idx, 3)) (hf : cells + mc ≤ Rm.cells ∧ slots + ms ≤ Rm.slots) :
    hx_Run p l e Rm s m args below meth c H locs cells slots mc ms (F0 m pc ls st0) rest (Qc (Value.ref (loc id) :: As).toArray) XC A :=
  hx_runVX (As := As) (rest := rest) F hM (hx_cwVW n F.2.2.2.2 hw rfl hrm.1 hrm.2 hd hR) ⟨hz_P.blind, hz_recv G hW hk h40 hc, hz_P.pay G hS hW⟩ rfl hn hl hst (lv_room hcat) d hf
theorem hz_startW {cc : ByteArray} {maxL : Nat} {rm : Room} {av : List Value} {hh : List (Nat × Nat × Nat × Nat)} (ho : y.cls = own) (hy : plainName own = true) (hlen : Nat.ble (lg_sl av).length maxL = true)
    (body : ∀ (p : Program) (e : Env) (s : State) (m : MethodId) (below : List Frame) (meth : Method) (c : Code) (ls : Array Slot), CallFix p m c cc maxL s av.toArray lw_all own → hz_G D dA A ro s → meth.sig.returnType = ret → meth.locks = false → hz_W τ D dA A loc S R I L s.heap → va_S A s.heap s.heap [] → lv_has ls maxL (lv_args 0 av) →
      W p l e rm s m av.toArray below meth c s.heap [] 0 0 (hx_MQ below Qc XC av.toArray s mc ms A) (F0 m 0 ls [])) : hx_Met l y (wsW_ y cc maxL ret hh) rm (hz_P τ D dA A ro loc S R I L av) Qc XC mc ms A := by
  subst ho
  refine hx_ofWH (cc := cc) (maxL := maxL) (ret := ret) (hh := hh) hy rfl ?_
  intro p e s m args below meth c s₁ B hml hv
  obtain ⟨rfl, G, hW⟩ := hv
  have hts0 := atoms_spec (ws := wsW_ y cc maxL ret hh) B.pre
  have hts : ∀ w ∈ lw_all, w.before av.toArray s = true := fun w h => hts0 w (List.mem_cons_of_mem _ h)
  rw [lg_entry_eq]
  exact body p e s m below meth c _ ⟨B.exec, B.bytes, hml, findClass_of_methodNamed B.named, hts⟩ G B.returns B.notSynchronized hW va_S.rf (lv_entry av (Nat.le_of_ble_eq_true hlen))
end HZ10c
