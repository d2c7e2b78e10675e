/-! ===== CORE 6: remainders, shifts, truth values ===== -/
def hz_rem (x y : Int32) : Int32 := x - x / y * y
def hz_remL (x y : Int64) : Int64 := x - x / y * y
def hz_ushr (x y : Int32) : Int32 := (x.toUInt32 >>> (y.toUInt32 &&& Int32.toUInt32 31)).toInt32
theorem hz_nb {v : Int32} (h : vp_nar .boolean v = v) : narrow .boolean (.int v) = .int v := congrArg Value.int h
theorem hz_g0 (x : Nat) : 44 + 1 + x ≠ 0 := by omega
theorem hz_g44 {S : hz_S} (h : 182 ≤ S.1) {i : Int32} (g : hz_in i 9) : hz_ob tc S (44 + 1 + i.toNatClampNeg) 40 64 := by
  have hl : i.toNatClampNeg < 9 := Nat.not_le.mp fun q => g (Or.inr q)
  generalize i.toNatClampNeg = k at hl
  match k, hl with
  | 0, _ => exact oc_45 h
  | 1, _ => exact oc_46 h
  | 2, _ => exact oc_47 h
  | 3, _ => exact oc_48 h
  | 4, _ => exact oc_49 h
  | 5, _ => exact oc_50 h
  | 6, _ => exact oc_51 h
  | 7, _ => exact oc_52 h
  | 8, _ => exact oc_53 h
  | k + 9, hl => omega
section HZ6
variable {p : Program} {l : Launch} {e : Env} {Rm : Room} {s : State} {m : MethodId} {args : Array Value} {below : List Frame} {meth : Method} {c : Code} {H : Heap} {locs : List Loc} {cells slots : Nat} {Q : State → Prop}
variable {cc : ByteArray} {own : String} {nL : Nat} {pc : Nat} {ls : Array Slot} {rest : List Value}
theorem hz_irem (F : CallFix p m c cc nL s args lw_all own) {x y : Int32} (d : decode cc pc = .ok (.irem, 1)) (hne : ¬ y = 0) (kk : W p l e Rm s m args below meth c H locs cells slots Q (F0 m (pc + 1) ls (.int (hz_rem x y) :: rest))) : W p l e Rm s m args below meth c H locs cells slots Q (F0 m pc ls (.int y :: .int x :: rest)) := lv_irem F.1 F.2.1 d hne kk
theorem hz_lrem (F : CallFix p m c cc nL s args lw_all own) {x y : Int64} (d : decode cc pc = .ok (.lrem, 1)) (hne : ¬ y = 0) (kk : W p l e Rm s m args below meth c H locs cells slots Q (F0 m (pc + 1) ls (.long (hz_remL x y) :: rest))) : W p l e Rm s m args below meth c H locs cells slots Q (F0 m pc ls (.long y :: .long x :: rest)) := lv_lrem F.1 F.2.1 d hne kk
end HZ6
