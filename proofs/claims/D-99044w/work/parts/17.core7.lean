/-! ===== CORE 7: arraycopy, references in arrays, objects seen at run time ===== -/
def hz_a {α : Type} (I : Nat → Nat → α) (id : Nat) (f : Nat → α) : Nat → Nat → α := fun a => if a = id then f else I a
theorem hz_a_s {α : Type} (I : Nat → Nat → α) (id : Nat) (f : Nat → α) : hz_a I id f id = f := if_pos rfl
theorem hz_a_n {α : Type} (I : Nat → Nat → α) {id a : Nat} (f : Nat → α) (h : a ≠ id) : hz_a I id f a = I a := if_neg h
abbrev hz_cp (sp dp n : Int32) (n0 n1 : Nat) : Prop := ¬ sp < 0 ∧ ¬ dp < 0 ∧ ¬ n < 0 ∧ sp.toNatClampNeg + n.toNatClampNeg ≤ n0 ∧ dp.toNatClampNeg + n.toNatClampNeg ≤ n1
abbrev hz_bs (f : Nat → Int32) (sp n : Int32) : Prop := ∀ i, i < n.toNatClampNeg → fits .boolean (.int (f (sp.toNatClampNeg + i))) = true
/-- a street that was made or is held in a row, seen at run time -/
abbrev hz_sOd (τ : hz_T) (S : hz_S) (β r : Nat) : Prop := (hz_obd τ S β 40 6 ∧ hz_obd τ S (β + 1) 40 6 ∧ hz_obd τ S (β + 2) 40 8 ∧ hz_obd τ S (β + 3) 40 8 ∧ hz_obd τ S (β + 4) 40 8 ∧ hz_obd τ S (β + 5) 40 8 ∧ hz_obd τ S (β + 6) 40 30 ∧ hz_obd τ S (β + 7) 2 0) ∧ β + 7 = r
theorem hz_sOd_s {τ : hz_T} {S : hz_S} {β r : Nat} (h : hz_sOd τ S β r) : hz_sO τ S β := h.1
section HZ7
variable {p : Program} {l : Launch} {e : Env} {Rm : Room} {s : State} {m : MethodId} {args : Array Value} {below : List Frame} {meth : Method} {c : Code} {H : Heap} {locs : List Loc} {cells slots : Nat} {Q : State → Prop}
variable {cc : ByteArray} {own : String} {nL : Nat} {pc : Nat} {ls : Array Slot} {rest : List Value} {τ : hz_T} {D : va_G} {dA : Nat → ClassId} {A : Nat → Prop} {ro loc : Nat → Nat} {S : hz_S} {R : hz_R} {I : hz_I} {L : hz_L}
variable {id κ n k idx r : Nat} {dc nm ds host : String} {fin : Bool}
theorem hz_nnS {β : Nat} (h : β + 7 = r) (kk : W p l e Rm s m args below meth c H locs cells slots Q (F0 m pc ls (.ref (loc (β + 7)) :: rest))) : W p l e Rm s m args below meth c H locs cells slots Q (F0 m pc ls (hz_rv loc r :: rest)) := by
  subst h
  rw [hz_rv_ne (Nat.succ_ne_zero _)]
  exact kk
theorem hz_nnE {r' : Nat} (h : r = r') (h0 : r' ≠ 0) (kk : W p l e Rm s m args below meth c H locs cells slots Q (F0 m pc ls (.ref (loc r') :: rest))) : W p l e Rm s m args below meth c H locs cells slots Q (F0 m pc ls (hz_rv loc r :: rest)) := by
  subst h
  rw [hz_rv_ne h0]
  exact kk
theorem hz_putrr (F : CallFix p m c cc nL s args lw_all own) (G : hz_G D dA A ro s) (hW : hz_W τ D dA A loc S R I L H) (hS : va_S A s.heap H locs) (hk : hz_ob τ S id κ n) (h40 : hz_wr κ = true ∧ κ < 40) (f : hz_fl κ k dc nm ds false) (ht : hz_isR (hz_ty κ k) = true) (hx : τ.2.2 κ k id = none) (h0 : r ≠ 0) (q : Cond.fieldLink own idx dc nm ds ∈ lw_all) (d : decode cc pc = .ok (.putfield idx, 3))
    (kk : ∀ (H1 : Heap) (locs1 : List Loc), hz_W τ D dA A loc S (hz_u R id k r) I L H1 → va_S A s.heap H1 locs1 → W p l e Rm s m args below meth c H1 locs1 cells slots Q (F0 m (pc + 3) ls rest)) : W p l e Rm s m args below meth c H locs cells slots Q (F0 m pc ls (.ref (loc r) :: .ref (loc id) :: rest)) := by
  rw [← hz_rv_ne (loc := loc) h0]
  exact hz_putr F G hW hS hk h40 f ht hx q d kk
theorem hz_setA {a1 n1 : Nat} {g : Nat → Int32} {H1 : Heap} (hκ : κ = 40 ∨ κ = 41 ∨ κ = 42 ∨ κ = 44 ∨ κ = 45) (hk1 : hz_ob τ S a1 κ n1) (h1 : va_P D hz_cl ((hz_wl τ dA loc S R I L).set (a1 - 1) (loc a1, .inl (dA κ, n1, .inl g))) H1) (h2 : va_D A ((hz_wl τ dA loc S R I L).set (a1 - 1) (loc a1, .inl (dA κ, n1, .inl g)))) : hz_W τ D dA A loc S R (hz_a I a1 g) L H1 := by
  have he : (hz_wl τ dA loc S R I L).set (a1 - 1) (loc a1, .inl (dA κ, n1, .inl g)) = hz_wl τ dA loc S R (hz_a I a1 g) L := by
    refine hz_wl_set hk1 ?_ (fun j hj => ⟨rfl, hz_a_n _ _ hj, rfl⟩)
    unfold hz_e hz_ar
    rw [hz_a_s]
    rcases hκ with rfl | rfl | rfl | rfl | rfl <;> rfl
  rw [he] at h1 h2
  exact ⟨h1, h2⟩
theorem hz_cpyi (F : CallFix p m c cc nL s args lw_all own) (G : hz_G D dA A ro s) (hW : hz_W τ D dA A loc S R I L H) (hS : va_S A s.heap H locs) (hl : ls.size = nL) {a0 a1 n0 n1 : Nat} (hk0 : hz_ob τ S a0 40 n0) (hk1 : hz_ob τ S a1 40 n1) {sp dp n : Int32} (g : hz_cp sp dp n n0 n1) (q : Cond.methodLink own idx arraycopyName ∈ lw_all) (hR : 1 ≤ Rm.frames ∧ (rest.map fun v => v.category).sum + 40 ≤ Rm.locals) (d : decode cc pc = .ok (.invokestatic idx, 3))
    (kk : ∀ (H1 : Heap) (locs1 : List Loc), hz_W τ D dA A loc S R (hz_a I a1 (va_cpy (I a0) (I a1) sp.toNatClampNeg dp.toNatClampNeg n.toNatClampNeg)) L H1 → va_S A s.heap H1 locs1 → W p l e Rm s m args below meth c H1 locs1 cells slots Q (F0 m (pc + 3) ls rest)) : W p l e Rm s m args below meth c H locs cells slots Q (F0 m pc ls (.int n :: .int dp :: .ref (loc a1) :: .int sp :: .ref (loc a0) :: rest)) :=
  va_copyi F.1 F.2.1 (F.2.2.1.trans hl.symm) F.2.2.2.1 (F.2.2.2.2 _ q) (F.2.2.2.2 _ q462) (F.2.2.2.2 _ q461) (F.2.2.2.2 _ q90) G.K hW.1 hW.2 hS (a0 - 1) (a1 - 1) 0 0 (hz_wl_i hk0 (by decide)) (hz_wl_i hk1 (by decide)) rfl rfl rfl g.1 g.2.1 g.2.2.1 g.2.2.2.1 g.2.2.2.2 (fun _ _ => rfl) hR.1 (Nat.le_trans (Nat.add_le_add_left (by decide) _) hR.2) d
    fun H1 locs1 g1 g2 g3 => kk H1 locs1 (hz_setA (by decide) hk1 g1 g2) g3
theorem hz_cpyz (F : CallFix p m c cc nL s args lw_all own) (G : hz_G D dA A ro s) (hW : hz_W τ D dA A loc S R I L H) (hS : va_S A s.heap H locs) (hl : ls.size = nL) {a0 a1 n0 n1 : Nat} (hk0 : hz_ob τ S a0 42 n0) (hk1 : hz_ob τ S a1 42 n1) {sp dp n : Int32} (g : hz_cp sp dp n n0 n1) (gz : hz_bs (I a0) sp n) (q : Cond.methodLink own idx arraycopyName ∈ lw_all) (hR : 1 ≤ Rm.frames ∧ (rest.map fun v => v.category).sum + 40 ≤ Rm.locals) (d : decode cc pc = .ok (.invokestatic idx, 3))
    (kk : ∀ (H1 : Heap) (locs1 : List Loc), hz_W τ D dA A loc S R (hz_a I a1 (va_cpy (I a0) (I a1) sp.toNatClampNeg dp.toNatClampNeg n.toNatClampNeg)) L H1 → va_S A s.heap H1 locs1 → W p l e Rm s m args below meth c H1 locs1 cells slots Q (F0 m (pc + 3) ls rest)) : W p l e Rm s m args below meth c H locs cells slots Q (F0 m pc ls (.int n :: .int dp :: .ref (loc a1) :: .int sp :: .ref (loc a0) :: rest)) :=
  va_copyi F.1 F.2.1 (F.2.2.1.trans hl.symm) F.2.2.2.1 (F.2.2.2.2 _ q) (F.2.2.2.2 _ q462) (F.2.2.2.2 _ q461) (F.2.2.2.2 _ q90) G.K hW.1 hW.2 hS (a0 - 1) (a1 - 1) 2 2 (hz_wl_i hk0 (by decide)) (hz_wl_i hk1 (by decide)) rfl rfl rfl g.1 g.2.1 g.2.2.1 g.2.2.2.1 g.2.2.2.2 gz hR.1 (Nat.le_trans (Nat.add_le_add_left (by decide) _) hR.2) d
    fun H1 locs1 g1 g2 g3 => kk H1 locs1 (hz_setA (by decide) hk1 g1 g2) g3
theorem hz_setQ {a1 n1 k r : Nat} {g : Nat → Option Nat} {R' : hz_R} {H1 : Heap} (hκ : κ = 46 ∨ κ = 47) (hk1 : hz_ob τ S a1 κ n1) (hx : ∀ k, τ.2.2 κ k a1 = none) (hg : (fun j => hz_ro loc (R' a1 j)) = g) (ho : ∀ j, j ≠ a1 → R' j = R j) (h1 : va_P D hz_cl ((hz_wl τ dA loc S R I L).set (a1 - 1) (loc a1, .inl (dA κ, n1, .inr (.inr (.inr (.inr g)))))) H1) (h2 : va_D A ((hz_wl τ dA loc S R I L).set (a1 - 1) (loc a1, .inl (dA κ, n1, .inr (.inr (.inr (.inr g))))))) : hz_W τ D dA A loc S R' I L H1 := by
  have he : (hz_wl τ dA loc S R I L).set (a1 - 1) (loc a1, .inl (dA κ, n1, .inr (.inr (.inr (.inr g))))) = hz_wl τ dA loc S R' I L := by
    refine hz_wl_set hk1 ?_ (fun j hj => ⟨ho j hj, rfl, rfl⟩)
    have hr : ∀ j, hz_rf τ R' κ j a1 = R' a1 j := fun j => by unfold hz_rf; rw [hx]
    unfold hz_e hz_ar
    simp only [hr, hg]
    rcases hκ with rfl | rfl <;> rfl
  rw [he] at h1 h2
  exact ⟨h1, h2⟩
/-- the row of streets, copied within itself or into another -/
theorem hz_cpyq (F : CallFix p m c cc nL s args lw_all own) (G : hz_G D dA A ro s) (hW : hz_W τ D dA A loc S R I L H) (hS : va_S A s.heap H locs) (hl : ls.size = nL) {a0 a1 n0 n1 : Nat} (hk0 : hz_ob τ S a0 46 n0) (hk1 : hz_ob τ S a1 46 n1) (hx0 : ∀ k, τ.2.2 46 k a0 = none) (hx1 : ∀ k, τ.2.2 46 k a1 = none) {sp dp n : Int32} (g : hz_cp sp dp n n0 n1) (gs : ∀ i, i < n.toNatClampNeg → hz_obd τ S (R a0 (sp.toNatClampNeg + i)) 2 0) (q : Cond.methodLink own idx arraycopyName ∈ lw_all) (hR : 1 ≤ Rm.frames ∧ (rest.map fun v => v.category).sum + 40 ≤ Rm.locals) (d : decode cc pc = .ok (.invokestatic idx, 3))
    (kk : ∀ (H1 : Heap) (locs1 : List Loc), hz_W τ D dA A loc S (hz_a R a1 (va_cpy (R a0) (R a1) sp.toNatClampNeg dp.toNatClampNeg n.toNatClampNeg)) I L H1 → va_S A s.heap H1 locs1 → W p l e Rm s m args below meth c H1 locs1 cells slots Q (F0 m (pc + 3) ls rest)) : W p l e Rm s m args below meth c H locs cells slots Q (F0 m pc ls (.int n :: .int dp :: .ref (loc a1) :: .int sp :: .ref (loc a0) :: rest)) := by
  have hr0 : ∀ j, hz_rf τ R 46 j a0 = R a0 j := fun j => by unfold hz_rf; rw [hx0]
  have hr1 : ∀ j, hz_rf τ R 46 j a1 = R a1 j := fun j => by unfold hz_rf; rw [hx1]
  refine va_copyq (C := "BehindAnotherHearse$Street") F.1 F.2.1 (F.2.2.1.trans hl.symm) F.2.2.2.1 (F.2.2.2.2 _ q) (F.2.2.2.2 _ q462) (F.2.2.2.2 _ q461) (F.2.2.2.2 _ q90) G.K hW.1 hW.2 hS (a0 - 1) (a1 - 1) 6 6 (hz_wl_q hk0 (by decide)) (hz_wl_q hk1 (by decide)) rfl rfl g.1 g.2.1 g.2.2.1 g.2.2.2.1 g.2.2.2.2 ?_ ?_ hR.1 (Nat.le_trans (Nat.add_le_add_left (by decide) _) hR.2) d
    fun H1 locs1 g1 g2 g3 => kk H1 locs1 (hz_setQ (k := 0) (r := 0) (Or.inl rfl) hk1 hx1 ?_ (fun j hj => hz_a_n _ _ hj) g1 g2) g3
  · intro i hi y hy
    have ho : hz_ob τ S (R a0 (sp.toNatClampNeg + i)) 2 0 := gs i hi
    rw [hr0] at hy
    have hy : hz_ro loc (R a0 (sp.toNatClampNeg + i)) = some y := hy
    unfold hz_ro at hy
    rw [if_neg (Nat.ne_of_gt ho.2.2)] at hy
    cases hy
    exact hz_recv (κ := 2) G hW ho (by decide) (q := (RX2, TX2, 10)) rfl
  · intro comp c0 h1 h2
    cases Option.some.inj (h1.symm.trans h2)
    exact va_assign (C := "BehindAnotherHearse$Street") ⟨h1, by
      have h3 := (G.K.1 2 _ rfl).2
      obtain ⟨h4, kC, h5, h6⟩ := h3
      cases Option.some.inj (h4.symm.trans h1)
      exact ⟨kC, h5, h6⟩⟩
  · funext j
    rw [hz_a_s]
    unfold va_cpy
    simp only [hr0, hr1]
    split <;> rfl
theorem hz_astS (F : CallFix p m c cc nL s args lw_all own) (G : hz_G D dA A ro s) (hW : hz_W τ D dA A loc S R I L H) (hS : va_S A s.heap H locs) {a1 n1 : Nat} (hk1 : hz_ob τ S a1 46 n1) (hx1 : ∀ k, τ.2.2 46 k a1 = none) (hv : hz_ob τ S r 2 0) {i : Int32} (hin : vp_in i n1) (d : decode cc pc = .ok (.aastore, 1))
    (kk : ∀ (H1 : Heap) (locs1 : List Loc), hz_W τ D dA A loc S (hz_u R a1 i.toNatClampNeg r) I L H1 → va_S A s.heap H1 locs1 → W p l e Rm s m args below meth c H1 locs1 cells slots Q (F0 m (pc + 1) ls rest)) : W p l e Rm s m args below meth c H locs cells slots Q (F0 m pc ls (.ref (loc r) :: .int i :: .ref (loc a1) :: rest)) := by
  have hr1 : ∀ j, hz_rf τ R 46 j a1 = R a1 j := fun j => by unfold hz_rf; rw [hx1]
  refine va_astq (r := (RX2, TX2, 10)) F.1 F.2.1 G.K hW.1 hW.2 hS (a1 - 1) 6 (r - 1) 2 (hz_wl_q hk1 (by decide)) rfl (hz_wl_o hv (by decide)) rfl hin d fun H1 locs1 g1 g2 g3 => kk H1 locs1 (hz_setQ (k := 0) (r := 0) (Or.inl rfl) hk1 hx1 ?_ (fun j hj => hz_u_i _ _ hj) g1 g2) g3
  funext j
  unfold va_up hz_u
  simp only [hr1]
  by_cases h : j = i.toNatClampNeg
  · subst h
    rw [if_pos ⟨trivial, rfl⟩, if_pos rfl]
    unfold hz_ro
    rw [if_neg (Nat.ne_of_gt hv.2.2)]
  · rw [if_neg (fun z => h z.2), if_neg h]
theorem hz_astP (F : CallFix p m c cc nL s args lw_all own) (G : hz_G D dA A ro s) (hW : hz_W τ D dA A loc S R I L H) (hS : va_S A s.heap H locs) {a1 n1 : Nat} (hk1 : hz_ob τ S a1 47 n1) (hx1 : ∀ k, τ.2.2 47 k a1 = none) (hv : hz_ob τ S r 11 0) {i : Int32} (hin : vp_in i n1) (d : decode cc pc = .ok (.aastore, 1))
    (kk : ∀ (H1 : Heap) (locs1 : List Loc), hz_W τ D dA A loc S (hz_u R a1 i.toNatClampNeg r) I L H1 → va_S A s.heap H1 locs1 → W p l e Rm s m args below meth c H1 locs1 cells slots Q (F0 m (pc + 1) ls rest)) : W p l e Rm s m args below meth c H locs cells slots Q (F0 m pc ls (.ref (loc r) :: .int i :: .ref (loc a1) :: rest)) := by
  have hr1 : ∀ j, hz_rf τ R 47 j a1 = R a1 j := fun j => by unfold hz_rf; rw [hx1]
  refine va_astq (r := (RX14, TX14, 3)) F.1 F.2.1 G.K hW.1 hW.2 hS (a1 - 1) 7 (r - 1) 11 (hz_wl_q hk1 (by decide)) rfl (hz_wl_o hv (by decide)) rfl hin d fun H1 locs1 g1 g2 g3 => kk H1 locs1 (hz_setQ (k := 0) (r := 0) (Or.inr rfl) hk1 hx1 ?_ (fun j hj => hz_u_i _ _ hj) g1 g2) g3
  funext j
  unfold va_up hz_u
  simp only [hr1]
  by_cases h : j = i.toNatClampNeg
  · subst h
    rw [if_pos ⟨trivial, rfl⟩, if_pos rfl]
    unfold hz_ro
    rw [if_neg (Nat.ne_of_gt hv.2.2)]
  · rw [if_neg (fun z => h z.2), if_neg h]
theorem hz_astN (F : CallFix p m c cc nL s args lw_all own) (G : hz_G D dA A ro s) (hW : hz_W τ D dA A loc S R I L H) (hS : va_S A s.heap H locs) {a1 n1 : Nat} (hk1 : hz_ob τ S a1 47 n1) (hx1 : ∀ k, τ.2.2 47 k a1 = none) {i : Int32} (hin : vp_in i n1) (d : decode cc pc = .ok (.aastore, 1))
    (kk : ∀ (H1 : Heap) (locs1 : List Loc), hz_W τ D dA A loc S (hz_u R a1 i.toNatClampNeg 0) I L H1 → va_S A s.heap H1 locs1 → W p l e Rm s m args below meth c H1 locs1 cells slots Q (F0 m (pc + 1) ls rest)) : W p l e Rm s m args below meth c H locs cells slots Q (F0 m pc ls (.null :: .int i :: .ref (loc a1) :: rest)) := by
  have hr1 : ∀ j, hz_rf τ R 47 j a1 = R a1 j := fun j => by unfold hz_rf; rw [hx1]
  refine va_astqN F.1 F.2.1 G.K hW.1 hW.2 hS (a1 - 1) 7 (hz_wl_q hk1 (by decide)) rfl hin d fun H1 locs1 g1 g2 g3 => kk H1 locs1 (hz_setQ (k := 0) (r := 0) (Or.inr rfl) hk1 hx1 ?_ (fun j hj => hz_u_i _ _ hj) g1 g2) g3
  funext j
  unfold va_up hz_u
  simp only [hr1]
  by_cases h : j = i.toNatClampNeg
  · subst h
    rw [if_pos ⟨trivial, rfl⟩, if_pos rfl]
    rfl
  · rw [if_neg (fun z => h z.2), if_neg h]
end HZ7
