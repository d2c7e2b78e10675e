/-! ===== CORE 4: a contract's beginning; Math; small tools ===== -/
def hz_mx (x y : Int32) : Int32 := if x < y then y else x
def hz_mn (x y : Int32) : Int32 := if y < x then y else x
def hz_ab (x : Int32) : Int32 := if 0 ≤ x then x else 0 - x
abbrev hz_in (i : Int32) (n : Nat) : Prop := ¬ (i < 0 ∨ n ≤ i.toNatClampNeg)
/-- an object that was made: its kind, seen at run time -/
abbrev hz_obd (τ : hz_T) (S : hz_S) (id κ n : Nat) : Prop := hz_sh τ S id = (κ, n) ∧ id < S.1 ∧ 0 < id
abbrev hz_oba (τ : hz_T) (S : hz_S) (id κ : Nat) : Prop := (hz_sh τ S id).1 = κ ∧ id < S.1 ∧ 0 < id
theorem hz_oba_ob {τ : hz_T} {S : hz_S} {id κ : Nat} (h : hz_oba τ S id κ) : hz_ob τ S id κ (hz_sh τ S id).2 := ⟨by rw [← h.1], h.2⟩
theorem hz_ip {α : Type} {P : Prop} [Decidable P] {x y : Option α} {z : α} (c : P) (h : (if P then x else y) = some z) : x = some z := by
  rw [if_pos c] at h
  exact h
theorem hz_ni {α : Type} {P : Prop} [Decidable P] {x y : Option α} {z : α} (c : ¬ P) (h : (if P then x else y) = some z) : y = some z := by
  rw [if_neg c] at h
  exact h
theorem hz_p1 {α : Type} {a : α} {o : α} (h : some a = some o) : a = o := Option.some.inj h
theorem hz_p2 {α β : Type} {a : α} {b : β} {o : α × β} (h : some (a, b) = some o) : a = o.1 ∧ b = o.2 := by
  cases h
  exact ⟨rfl, rfl⟩
theorem hz_p3 {α β γ : Type} {a : α} {b : β} {c : γ} {o : α × β × γ} (h : some (a, b, c) = some o) : a = o.1 ∧ b = o.2.1 ∧ c = o.2.2 := by
  cases h
  exact ⟨rfl, rfl, rfl⟩
theorem hz_p4 {α β γ δ : Type} {a : α} {b : β} {c : γ} {d : δ} {o : α × β × γ × δ} (h : some (a, b, c, d) = some o) : a = o.1 ∧ b = o.2.1 ∧ c = o.2.2.1 ∧ d = o.2.2.2 := by
  cases h
  exact ⟨rfl, rfl, rfl, rfl⟩
theorem hz_sf {α : Type} {z : α} {P : Prop} (h : (none : Option α) = some z) : P := nomatch h
section HZS
variable {l : Launch} {τ : hz_T} {D : va_G} {dA : Nat → ClassId} {A : Nat → Prop} {ro loc : Nat → Nat} {S : hz_S} {R : hz_R} {I : hz_I} {L : hz_L}
theorem hz_start {y : MethodName} {cc : ByteArray} {maxL : Nat} {ret : Option FieldType} {rm : Room} {av : List Value} {Qc : Array Value → State → Outcome → State → Prop} {mc ms : Nat} {own : String} (ho : y.cls = own) (hy : plainName own = true) (hlen : Nat.ble (lg_sl av).length maxL = true)
    (body : ∀ (p : Program) (e : Env) (s : State) (m : MethodId) (below : List Frame) (meth : Method) (c : Code) (ls : Array Slot), CallFix p m c cc maxL s av.toArray lw_all own → hz_G D dA A ro s → meth.sig.returnType = ret → meth.locks = false → hz_W τ D dA A loc S R I L s.heap → va_S A s.heap s.heap [] → lv_has ls maxL (lv_args 0 av) →
      W p l e rm s m av.toArray below meth c s.heap [] 0 0 (MQ below Qc av.toArray s mc ms A) (F0 m 0 ls [])) : Met l y (ws_ y cc maxL ret) rm (hz_P τ D dA A ro loc S R I L av) Qc mc ms A := by
  subst ho
  refine Met.ofW (cc := cc) (maxL := maxL) (ret := ret) hy rfl ?_
  intro p e s m args below meth c s₁ B hml hv
  obtain ⟨rfl, G, hW⟩ := hv
  have hts0 := atoms_spec (ws := ws_ y cc maxL ret) B.pre
  have hts : ∀ w ∈ lw_all, w.before av.toArray s = true := fun w h => hts0 w (List.mem_cons_of_mem _ h)
  rw [lg_entry_eq]
  exact body p e s m below meth c _ ⟨B.exec, B.bytes, hml, findClass_of_methodNamed B.named, hts⟩ G B.returns B.notSynchronized hW va_S.rf (lv_entry av (Nat.le_of_ble_eq_true hlen))
end HZS
section HZM
variable {p : Program} {l : Launch} {e : Env} {Rm : Room} {s : State} {m : MethodId} {args : Array Value} {below : List Frame} {meth : Method} {c : Code} {H : Heap} {locs : List Loc} {cells slots : Nat} {Q : State → Prop}
variable {cc : ByteArray} {own : String} {nL : Nat} {pc : Nat} {ls : Array Slot} {rest : List Value} {τ : hz_T} {D : va_G} {dA : Nat → ClassId} {A : Nat → Prop} {ro loc : Nat → Nat} {S : hz_S} {R : hz_R} {I : hz_I} {L : hz_L}
theorem hz_mmax (F : CallFix p m c cc nL s args lw_all own) (hl : ls.size = nL) {idx : Nat} (q : Cond.methodLink own idx Lib.Math.max.name ∈ lw_all) (hR : 1 ≤ Rm.frames ∧ (rest.map fun v => v.category).sum + 13 ≤ Rm.locals) (hf : cells ≤ Rm.cells ∧ slots ≤ Rm.slots) {x y : Int32} (d : decode cc pc = .ok (.invokestatic idx, 3))
    (kk : W p l e Rm s m args below meth c H locs cells slots Q (F0 m (pc + 3) ls (.int (hz_mx x y) :: rest))) : W p l e Rm s m args below meth c H locs cells slots Q (F0 m pc ls (.int y :: .int x :: rest)) :=
  va_mmax F.1 F.2.1 (F.2.2.1.trans hl.symm) F.2.2.2.1 (F.2.2.2.2 _ q) (F.2.2.2.2 (.static Lib.Math.max.name) q511) (F.2.2.2.2 (.initialized "java/lang/Math") q86) (F.2.2.2.2 (.code Lib.Math.max.name Lib.Math.max.code 2 (some .int)) q512) hR.1 hR.2 hf.1 hf.2 d kk
theorem hz_mmin (F : CallFix p m c cc nL s args lw_all own) (hl : ls.size = nL) {idx : Nat} (q : Cond.methodLink own idx Lib.Math.min.name ∈ lw_all) (hR : 1 ≤ Rm.frames ∧ (rest.map fun v => v.category).sum + 13 ≤ Rm.locals) (hf : cells ≤ Rm.cells ∧ slots ≤ Rm.slots) {x y : Int32} (d : decode cc pc = .ok (.invokestatic idx, 3))
    (kk : W p l e Rm s m args below meth c H locs cells slots Q (F0 m (pc + 3) ls (.int (hz_mn x y) :: rest))) : W p l e Rm s m args below meth c H locs cells slots Q (F0 m pc ls (.int y :: .int x :: rest)) :=
  va_mmin F.1 F.2.1 (F.2.2.1.trans hl.symm) F.2.2.2.1 (F.2.2.2.2 _ q) (F.2.2.2.2 (.static Lib.Math.min.name) q344) (F.2.2.2.2 (.initialized "java/lang/Math") q86) (F.2.2.2.2 (.code Lib.Math.min.name Lib.Math.min.code 2 (some .int)) q345) hR.1 hR.2 hf.1 hf.2 d kk
theorem hz_mabs (F : CallFix p m c cc nL s args lw_all own) (hl : ls.size = nL) {idx : Nat} (q : Cond.methodLink own idx Lib.Math.abs.name ∈ lw_all) (hR : 1 ≤ Rm.frames ∧ (rest.map fun v => v.category).sum + 13 ≤ Rm.locals) (hf : cells ≤ Rm.cells ∧ slots ≤ Rm.slots) {x : Int32} (d : decode cc pc = .ok (.invokestatic idx, 3))
    (kk : W p l e Rm s m args below meth c H locs cells slots Q (F0 m (pc + 3) ls (.int (hz_ab x) :: rest))) : W p l e Rm s m args below meth c H locs cells slots Q (F0 m pc ls (.int x :: rest)) :=
  va_mabs F.1 F.2.1 (F.2.2.1.trans hl.symm) F.2.2.2.1 (F.2.2.2.2 _ q) (F.2.2.2.2 (.static Lib.Math.abs.name) q802) (F.2.2.2.2 (.initialized "java/lang/Math") q86) (F.2.2.2.2 (.code Lib.Math.abs.name Lib.Math.abs.code 1 (some .int)) q803) hR.1 hR.2 hf.1 hf.2 d kk
/-- a reference that may be null, on the stack or in a local -/
theorem hz_aload_n (F : CallFix p m c cc nL s args lw_all own) {k : Fin 4} {i r : Nat} (d : decode cc pc = .ok (.aload_n k, 1)) (hi : (k : Nat) = i) (hl : ls[i]? = some (.val (hz_rv loc r)))
    (kk : W p l e Rm s m args below meth c H locs cells slots Q (F0 m (pc + 1) ls (hz_rv loc r :: rest))) : W p l e Rm s m args below meth c H locs cells slots Q (F0 m pc ls rest) := by
  by_cases h : r = 0
  · subst h
    exact lv_aload_nN F.1 F.2.1 d hi hl kk
  · rw [hz_rv_ne h] at hl kk
    exact lv_aload_n F.1 F.2.1 d hi hl kk
theorem hz_aload (F : CallFix p m c cc nL s args lw_all own) {i r : Nat} (d : decode cc pc = .ok (.aload i, 2)) (hl : ls[i]? = some (.val (hz_rv loc r)))
    (kk : W p l e Rm s m args below meth c H locs cells slots Q (F0 m (pc + 2) ls (hz_rv loc r :: rest))) : W p l e Rm s m args below meth c H locs cells slots Q (F0 m pc ls rest) := by
  by_cases h : r = 0
  · subst h
    exact lv_aloadN F.1 F.2.1 d hl kk
  · rw [hz_rv_ne h] at hl kk
    exact lv_aload F.1 F.2.1 d hl kk
theorem hz_astore_n (F : CallFix p m c cc nL s args lw_all own) {k : Fin 4} {i r : Nat} {lv lv' : List (Nat × Value)} (d : decode cc pc = .ok (.astore_n k, 1)) (hi : (k : Nat) = i) (h : lv_has ls nL lv) (hn : i < nL) (hl : (i, hz_rv loc r) :: lv.filter (fun q => !(q.1 == i) && !(q.1 + 1 == i && q.2.category == 2)) = lv')
    (kk : ∀ ls' : Array Slot, lv_has ls' nL lv' → W p l e Rm s m args below meth c H locs cells slots Q (F0 m (pc + 1) ls' rest)) : W p l e Rm s m args below meth c H locs cells slots Q (F0 m pc ls (hz_rv loc r :: rest)) := by
  by_cases hz : r = 0
  · subst hz
    exact lv_astore_nN F.1 F.2.1 d hi h hn hl kk
  · rw [hz_rv_ne hz] at hl ⊢
    exact lv_astore_n F.1 F.2.1 d hi h hn hl kk
theorem hz_astore (F : CallFix p m c cc nL s args lw_all own) {i r : Nat} {lv lv' : List (Nat × Value)} (d : decode cc pc = .ok (.astore i, 2)) (h : lv_has ls nL lv) (hn : i < nL) (hl : (i, hz_rv loc r) :: lv.filter (fun q => !(q.1 == i) && !(q.1 + 1 == i && q.2.category == 2)) = lv')
    (kk : ∀ ls' : Array Slot, lv_has ls' nL lv' → W p l e Rm s m args below meth c H locs cells slots Q (F0 m (pc + 2) ls' rest)) : W p l e Rm s m args below meth c H locs cells slots Q (F0 m pc ls (hz_rv loc r :: rest)) := by
  by_cases hz : r = 0
  · subst hz
    exact lv_astoreN F.1 F.2.1 d h hn hl kk
  · rw [hz_rv_ne hz] at hl ⊢
    exact lv_astore F.1 F.2.1 d h hn hl kk
end HZM
