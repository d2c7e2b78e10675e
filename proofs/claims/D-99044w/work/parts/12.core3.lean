/-! ===== CORE 3: rows over the picture ===== -/
theorem hz_cl_in : ∀ (κ : Nat) (q : vw_C), hz_cl[κ]? = some q → ∀ w ∈ u_ws q.1 q.2.1 q.2.2, w ∈ lw_all := by
  intro κ q h
  have hlt := (List.getElem?_eq_some_iff.mp h).1
  have hlt : κ < 15 := hlt
  have h0 : ∀ w ∈ u_ws RJ4 TJ4 2, w ∈ lw_all := fun w hw => in_J4 w (by
    obtain ⟨k, hk, e⟩ := List.mem_map.mp hw
    exact List.mem_map.mpr ⟨k, List.mem_range.mpr (by have := List.mem_range.mp hk; omega), e⟩)
  match κ, h with
  | 0, h => cases h; exact h0
  | 1, h => cases h; exact in_X1
  | 2, h => cases h; exact in_X2
  | 3, h => cases h; exact in_X4
  | 4, h => cases h; exact in_X5
  | 5, h => cases h; exact in_X11
  | 6, h => cases h; exact in_X12
  | 7, h => cases h; exact in_X13
  | 8, h => cases h; exact in_X7
  | 9, h => cases h; exact in_X9
  | 10, h => cases h; exact in_X10
  | 11, h => cases h; exact in_X14
  | 12, h => cases h; exact in_X6
  | 13, h => cases h; exact in_J4
  | 14, h => cases h; exact in_X8
  | k + 15, h => omega
theorem hz_cl_ty : ∀ (κ : Nat) (q : vw_C), hz_cl[κ]? = some q → ∀ k, k < q.2.2 → parseFieldDescriptor (q.2.1 k).2.2.1 = some (hz_ty κ k) := by
  intro κ q h
  have hlt := (List.getElem?_eq_some_iff.mp h).1
  have hlt : κ < 15 := hlt
  match κ, h with
  | 0, h => cases h; exact fun k hk => tyJ4_ok k (Nat.lt_trans hk (by decide))
  | 1, h => cases h; exact tyX1_ok
  | 2, h => cases h; exact tyX2_ok
  | 3, h => cases h; exact tyX4_ok
  | 4, h => cases h; exact tyX5_ok
  | 5, h => cases h; exact tyX11_ok
  | 6, h => cases h; exact tyX12_ok
  | 7, h => cases h; exact tyX13_ok
  | 8, h => cases h; exact tyX7_ok
  | 9, h => cases h; exact tyX9_ok
  | 10, h => cases h; exact tyX10_ok
  | 11, h => cases h; exact tyX14_ok
  | 12, h => cases h; exact tyX6_ok
  | 13, h => cases h; exact tyJ4_ok
  | 14, h => cases h; exact tyX8_ok
  | k + 15, h => omega
/-- the classes whose fields are written outside constructors -/
def hz_wr (κ : Nat) : Bool := κ == 1 || κ == 2 || κ == 8 || κ == 9 || κ == 10 || κ == 12
theorem hz_cl_nm : ∀ (κ : Nat) (q : vw_C), hz_cl[κ]? = some q → hz_wr κ = true → ∀ a, a < q.2.2 → ∀ b, b < q.2.2 → a ≠ b → (q.2.1 a).2.1 ≠ (q.2.1 b).2.1 := by
  intro κ q h hw
  have hlt := (List.getElem?_eq_some_iff.mp h).1
  have hlt : κ < 15 := hlt
  match κ, h, hw with
  | 0, h, hw => exact absurd hw (by decide)
  | 1, h, _ => cases h; exact nmX1
  | 2, h, _ => cases h; exact nmX2
  | 3, h, hw => exact absurd hw (by decide)
  | 4, h, hw => exact absurd hw (by decide)
  | 5, h, hw => exact absurd hw (by decide)
  | 6, h, hw => exact absurd hw (by decide)
  | 7, h, hw => exact absurd hw (by decide)
  | 8, h, _ => cases h; exact nmX7
  | 9, h, _ => cases h; exact nmX9
  | 10, h, _ => cases h; exact nmX10
  | 11, h, hw => exact absurd hw (by decide)
  | 12, h, _ => cases h; exact nmX6
  | 13, h, hw => exact absurd hw (by decide)
  | 14, h, hw => exact absurd hw (by decide)
  | k + 15, h, _ => omega
theorem hz_cl_n : ∀ (κ : Nat) (q : vw_C), hz_cl[κ]? = some q → q.2.2 = hz_n κ := by
  intro κ q h
  have hlt := (List.getElem?_eq_some_iff.mp h).1
  have hlt : κ < 15 := hlt
  match κ, h with
  | 0, h => cases h; rfl
  | 1, h => cases h; rfl
  | 2, h => cases h; rfl
  | 3, h => cases h; rfl
  | 4, h => cases h; rfl
  | 5, h => cases h; rfl
  | 6, h => cases h; rfl
  | 7, h => cases h; rfl
  | 8, h => cases h; rfl
  | 9, h => cases h; rfl
  | 10, h => cases h; rfl
  | 11, h => cases h; rfl
  | 12, h => cases h; rfl
  | 13, h => cases h; rfl
  | 14, h => cases h; rfl
  | k + 15, h => omega
/-- the place k of the class κ: its declaring class, name, descriptor, whether final -/
def hz_fl (κ k : Nat) (dc nm ds : String) (fin : Bool) : Prop := ∃ q : vw_C, hz_cl[κ]? = some q ∧ k < q.2.2 ∧ q.2.1 k = (dc, nm, ds, fin)
section HZR
variable {p : Program} {l : Launch} {e : Env} {Rm : Room} {s : State} {m : MethodId} {args : Array Value} {below : List Frame} {meth : Method} {c : Code} {H : Heap} {locs : List Loc} {cells slots : Nat} {Q : State → Prop}
variable {cc : ByteArray} {own : String} {nL : Nat} {pc : Nat} {ls : Array Slot} {rest : List Value} {τ : hz_T} {D : va_G} {dA : Nat → ClassId} {A : Nat → Prop} {ro loc : Nat → Nat} {S : hz_S} {R : hz_R} {I : hz_I} {L : hz_L}
theorem hz_one {id κ n : Nat} (hW : hz_W τ D dA A loc S R I L H) (hk : hz_ob τ S id κ n) : va_P D hz_cl [(loc id, hz_e τ dA loc R I L (κ, n) id)] H := by
  intro j q hj
  match j, hj with
  | 0, hj => cases hj; exact hW.at' hk
  | j + 1, hj => cases hj
theorem hz_getv (F : CallFix p m c cc nL s args lw_all own) (G : hz_G D dA A ro s) (hW : hz_W τ D dA A loc S R I L H) {id κ n k : Nat} (hk : hz_ob τ S id κ n) (h40 : κ < 40) {dc nm ds : String} {fin : Bool} (f : hz_fl κ k dc nm ds fin) {idx : Nat} (q : Cond.fieldLink own idx dc nm ds ∈ lw_all) (d : decode cc pc = .ok (.getfield idx, 3))
    (kk : W p l e Rm s m args below meth c H locs cells slots Q (F0 m (pc + 3) ls (hz_fv τ loc R I κ id k :: rest))) : W p l e Rm s m args below meth c H locs cells slots Q (F0 m pc ls (.ref (loc id) :: rest)) := by
  obtain ⟨⟨C, T, N⟩, hc, hkN, hT⟩ := f
  have hn : N = hz_n κ := hz_cl_n κ _ hc
  dsimp only at hkN hT
  have h1 := hz_wl_o (dA := dA) (loc := loc) (R := R) (I := I) (L := L) hk h40
  refine va_get (D := D) (T := T) (N := N) F.1 F.2.1 F.2.2.2.2 (hz_cl_in κ _ hc) F.2.2.2.1 G.K hW.1 (id - 1) h1 hc k hkN (by rw [hT]; exact F.2.2.2.2 _ q) (by rw [hT]; exact fun _ h => h) (hz_fs_at (by rw [← hn]; exact hkN)) d kk
theorem hz_getvS (F : CallFix p m c cc nL s args lw_all own) (G : hz_G D dA A ro s) (hW : hz_W τ D dA A loc S R I L H) {id κ n k : Nat} (hk : hz_ob τ S id κ n) (h40 : κ < 40) {dc rf nm ds : String} {fin : Bool} (f : hz_fl κ k dc nm ds fin) {idx : Nat} (q : Cond.fieldLink own idx rf nm ds ∈ lw_all) (qs : Cond.sameField rf dc nm ds ∈ lw_all) (d : decode cc pc = .ok (.getfield idx, 3))
    (kk : W p l e Rm s m args below meth c H locs cells slots Q (F0 m (pc + 3) ls (hz_fv τ loc R I κ id k :: rest))) : W p l e Rm s m args below meth c H locs cells slots Q (F0 m pc ls (.ref (loc id) :: rest)) := by
  obtain ⟨⟨C, T, N⟩, hc, hkN, hT⟩ := f
  have hn : N = hz_n κ := hz_cl_n κ _ hc
  dsimp only at hkN hT
  have h1 := hz_wl_o (dA := dA) (loc := loc) (R := R) (I := I) (L := L) hk h40
  refine va_get (D := D) (T := T) (N := N) F.1 F.2.1 F.2.2.2.2 (hz_cl_in κ _ hc) F.2.2.2.1 G.K hW.1 (id - 1) h1 hc k hkN (by rw [hT]; exact F.2.2.2.2 _ q) (by rw [hT]; exact fun x h => u_same (F.2.2.2.2 _ qs) x h) (hz_fs_at (by rw [← hn]; exact hkN)) d kk
theorem hz_getvN (F : CallFix p m c cc nL s args lw_all own) (G : hz_G D dA A ro s) (hW : hz_W τ D dA A loc S R I L H) {id κ n k : Nat} (hk : hz_ob τ S id κ n) (h40 : κ < 40) {dc nm ds host : String} {fin : Bool} (f : hz_fl κ k dc nm ds fin) {idx : Nat} (q : va_Nw (.fieldLinkNest own idx dc nm ds host) s) (d : decode cc pc = .ok (.getfield idx, 3))
    (kk : W p l e Rm s m args below meth c H locs cells slots Q (F0 m (pc + 3) ls (hz_fv τ loc R I κ id k :: rest))) : W p l e Rm s m args below meth c H locs cells slots Q (F0 m pc ls (.ref (loc id) :: rest)) := by
  obtain ⟨⟨C, T, N⟩, hc, hkN, hT⟩ := f
  have hn : N = hz_n κ := hz_cl_n κ _ hc
  dsimp only at hkN hT
  have h1 := hz_wl_o (dA := dA) (loc := loc) (R := R) (I := I) (L := L) hk h40
  refine va_getN (D := D) (T := T) (N := N) F.1 F.2.1 F.2.2.2.2 (hz_cl_in κ _ hc) F.2.2.2.1 G.K hW.1 (id - 1) h1 hc k hkN (by rw [hT]; exact q.use rfl) (by rw [hT]; exact fun _ h => h) (hz_fs_at (by rw [← hn]; exact hkN)) d kk
theorem hz_fv_i {κ id k : Nat} (h : hz_isR (hz_ty κ k) = false) : hz_fv τ loc R I κ id k = .int (I id k) := by
  unfold hz_fv
  rw [if_neg (by rw [h]; decide)]
theorem hz_fv_f {κ id k r : Nat} (h : hz_isR (hz_ty κ k) = true) (hx : τ.2.2 κ k id = some r) (h0 : r ≠ 0) : hz_fv τ loc R I κ id k = .ref (loc r) := by
  unfold hz_fv hz_rf
  rw [if_pos h, hx]
  exact hz_rv_ne h0
theorem hz_fv_d {κ id k : Nat} (h : hz_isR (hz_ty κ k) = true) (hx : τ.2.2 κ k id = none) : hz_fv τ loc R I κ id k = hz_rv loc (R id k) := by
  unfold hz_fv hz_rf
  rw [if_pos h, hx]
/-- an int field is written -/
theorem hz_put0 (G : hz_G D dA A ro s) (hW : hz_W τ D dA A loc S R I L H) {id κ n k : Nat} (hk : hz_ob τ S id κ n) (h40 : κ < 40) (ht : hz_ty κ k = .int) {v : Int32} {H1 : Heap} (h1 : va_P D hz_cl ((hz_wl τ dA loc S R I L).set (id - 1) (loc id, .inr (κ, (hz_fs τ loc R I κ id).set k (.int v)))) H1) (h2 : va_D A ((hz_wl τ dA loc S R I L).set (id - 1) (loc id, .inr (κ, (hz_fs τ loc R I κ id).set k (.int v))))) : hz_W τ D dA A loc S R (hz_u I id k v) L H1 := by
  have he : (hz_wl τ dA loc S R I L).set (id - 1) (loc id, .inr (κ, (hz_fs τ loc R I κ id).set k (.int v))) = hz_wl τ dA loc S R (hz_u I id k v) L := by
    refine hz_wl_set hk ?_ (fun j hj => ⟨rfl, hz_u_i _ _ hj, rfl⟩)
    unfold hz_e
    rw [if_pos h40]
    rw [hz_fs_set_i (by rw [ht]; rfl)]
  rw [he] at h1 h2
  exact ⟨h1, h2⟩
theorem hz_puti (F : CallFix p m c cc nL s args lw_all own) (G : hz_G D dA A ro s) (hW : hz_W τ D dA A loc S R I L H) (hS : va_S A s.heap H locs) {id κ n k : Nat} (hk : hz_ob τ S id κ n) (h40 : hz_wr κ = true ∧ κ < 40) {dc nm ds : String} (f : hz_fl κ k dc nm ds false) (ht : hz_ty κ k = .int) {v : Int32} {idx : Nat} (q : Cond.fieldLink own idx dc nm ds ∈ lw_all) (d : decode cc pc = .ok (.putfield idx, 3))
    (kk : ∀ (H1 : Heap) (locs1 : List Loc), hz_W τ D dA A loc S R (hz_u I id k v) L H1 → va_S A s.heap H1 locs1 → W p l e Rm s m args below meth c H1 locs1 cells slots Q (F0 m (pc + 3) ls rest)) : W p l e Rm s m args below meth c H locs cells slots Q (F0 m pc ls (.int v :: .ref (loc id) :: rest)) := by
  obtain ⟨⟨C, T, N⟩, hc, hkN, hT⟩ := f
  have hn : N = hz_n κ := hz_cl_n κ _ hc
  dsimp only at hkN hT
  have h1 := hz_wl_o (dA := dA) (loc := loc) (R := R) (I := I) (L := L) hk h40.2
  have hd := hz_cl_ty κ _ hc k hkN
  rw [ht] at hd
  refine va_put (D := D) (T := T) (N := N) (ty := .int) (v := .int v) F.1 F.2.1 F.2.2.2.2 (hz_cl_in κ _ hc) (hz_ty κ) (hz_cl_ty κ _ hc) (hz_cl_nm κ _ hc h40.1) F.2.2.2.1 G.K hW.1 hW.2 hS (id - 1) h1 hc k hkN (by rw [hT]; exact F.2.2.2.2 _ q) (by rw [hT]; exact fun _ h => h) (by rw [hT]) hd rfl rfl (by rw [hz_fs_len, ← hn]; exact hkN) d fun H1 locs1 g1 g2 g3 => kk H1 locs1 (hz_put0 G hW hk h40.2 ht g1 g2) g3
theorem hz_putiS (F : CallFix p m c cc nL s args lw_all own) (G : hz_G D dA A ro s) (hW : hz_W τ D dA A loc S R I L H) (hS : va_S A s.heap H locs) {id κ n k : Nat} (hk : hz_ob τ S id κ n) (h40 : hz_wr κ = true ∧ κ < 40) {dc rf nm ds : String} (f : hz_fl κ k dc nm ds false) (ht : hz_ty κ k = .int) {v : Int32} {idx : Nat} (q : Cond.fieldLink own idx rf nm ds ∈ lw_all) (qs : Cond.sameField rf dc nm ds ∈ lw_all) (d : decode cc pc = .ok (.putfield idx, 3))
    (kk : ∀ (H1 : Heap) (locs1 : List Loc), hz_W τ D dA A loc S R (hz_u I id k v) L H1 → va_S A s.heap H1 locs1 → W p l e Rm s m args below meth c H1 locs1 cells slots Q (F0 m (pc + 3) ls rest)) : W p l e Rm s m args below meth c H locs cells slots Q (F0 m pc ls (.int v :: .ref (loc id) :: rest)) := by
  obtain ⟨⟨C, T, N⟩, hc, hkN, hT⟩ := f
  have hn : N = hz_n κ := hz_cl_n κ _ hc
  dsimp only at hkN hT
  have h1 := hz_wl_o (dA := dA) (loc := loc) (R := R) (I := I) (L := L) hk h40.2
  have hd := hz_cl_ty κ _ hc k hkN
  rw [ht] at hd
  refine va_put (D := D) (T := T) (N := N) (ty := .int) (v := .int v) F.1 F.2.1 F.2.2.2.2 (hz_cl_in κ _ hc) (hz_ty κ) (hz_cl_ty κ _ hc) (hz_cl_nm κ _ hc h40.1) F.2.2.2.1 G.K hW.1 hW.2 hS (id - 1) h1 hc k hkN (by rw [hT]; exact F.2.2.2.2 _ q) (by rw [hT]; exact fun x h => u_same (F.2.2.2.2 _ qs) x h) (by rw [hT]) hd rfl rfl (by rw [hz_fs_len, ← hn]; exact hkN) d fun H1 locs1 g1 g2 g3 => kk H1 locs1 (hz_put0 G hW hk h40.2 ht g1 g2) g3
theorem hz_putiN (F : CallFix p m c cc nL s args lw_all own) (G : hz_G D dA A ro s) (hW : hz_W τ D dA A loc S R I L H) (hS : va_S A s.heap H locs) {id κ n k : Nat} (hk : hz_ob τ S id κ n) (h40 : hz_wr κ = true ∧ κ < 40) {dc nm ds host : String} (f : hz_fl κ k dc nm ds false) (ht : hz_ty κ k = .int) {v : Int32} {idx : Nat} (q : va_Nw (.fieldLinkNest own idx dc nm ds host) s) (d : decode cc pc = .ok (.putfield idx, 3))
    (kk : ∀ (H1 : Heap) (locs1 : List Loc), hz_W τ D dA A loc S R (hz_u I id k v) L H1 → va_S A s.heap H1 locs1 → W p l e Rm s m args below meth c H1 locs1 cells slots Q (F0 m (pc + 3) ls rest)) : W p l e Rm s m args below meth c H locs cells slots Q (F0 m pc ls (.int v :: .ref (loc id) :: rest)) := by
  obtain ⟨⟨C, T, N⟩, hc, hkN, hT⟩ := f
  have hn : N = hz_n κ := hz_cl_n κ _ hc
  dsimp only at hkN hT
  have h1 := hz_wl_o (dA := dA) (loc := loc) (R := R) (I := I) (L := L) hk h40.2
  have hd := hz_cl_ty κ _ hc k hkN
  rw [ht] at hd
  refine va_putN (D := D) (T := T) (N := N) (ty := .int) (v := .int v) F.1 F.2.1 F.2.2.2.2 (hz_cl_in κ _ hc) (hz_ty κ) (hz_cl_ty κ _ hc) (hz_cl_nm κ _ hc h40.1) F.2.2.2.1 G.K hW.1 hW.2 hS (id - 1) h1 hc k hkN (by rw [hT]; exact q.use rfl) (by rw [hT]; exact fun _ h => h) (by rw [hT]) hd rfl rfl (by rw [hz_fs_len, ← hn]; exact hkN) d fun H1 locs1 g1 g2 g3 => kk H1 locs1 (hz_put0 G hW hk h40.2 ht g1 g2) g3
/-- a reference field is written -/
theorem hz_putr (F : CallFix p m c cc nL s args lw_all own) (G : hz_G D dA A ro s) (hW : hz_W τ D dA A loc S R I L H) (hS : va_S A s.heap H locs) {id κ n k : Nat} (hk : hz_ob τ S id κ n) (h40 : hz_wr κ = true ∧ κ < 40) {dc nm ds : String} (f : hz_fl κ k dc nm ds false) (ht : hz_isR (hz_ty κ k) = true) (hx : τ.2.2 κ k id = none) {r : Nat} {idx : Nat} (q : Cond.fieldLink own idx dc nm ds ∈ lw_all) (d : decode cc pc = .ok (.putfield idx, 3))
    (kk : ∀ (H1 : Heap) (locs1 : List Loc), hz_W τ D dA A loc S (hz_u R id k r) I L H1 → va_S A s.heap H1 locs1 → W p l e Rm s m args below meth c H1 locs1 cells slots Q (F0 m (pc + 3) ls rest)) : W p l e Rm s m args below meth c H locs cells slots Q (F0 m pc ls (hz_rv loc r :: .ref (loc id) :: rest)) := by
  obtain ⟨⟨C, T, N⟩, hc, hkN, hT⟩ := f
  have hn : N = hz_n κ := hz_cl_n κ _ hc
  dsimp only at hkN hT
  have h1 := hz_wl_o (dA := dA) (loc := loc) (R := R) (I := I) (L := L) hk h40.2
  have hd := hz_cl_ty κ _ hc k hkN
  have hnar : narrow (hz_ty κ k) (hz_rv loc r) = hz_rv loc r := by
    unfold hz_rv
    cases h : hz_ty κ k <;> rw [h] at ht <;> first | (exact absurd ht (by decide)) | (split <;> rfl)
  have hfit : fits (hz_ty κ k) (hz_rv loc r) = true := by
    unfold hz_rv
    cases h : hz_ty κ k <;> rw [h] at ht <;> first | (exact absurd ht (by decide)) | (split <;> rfl)
  refine va_put (D := D) (T := T) (N := N) (ty := hz_ty κ k) (v := hz_rv loc r) F.1 F.2.1 F.2.2.2.2 (hz_cl_in κ _ hc) (hz_ty κ) (hz_cl_ty κ _ hc) (hz_cl_nm κ _ hc h40.1) F.2.2.2.1 G.K hW.1 hW.2 hS (id - 1) h1 hc k hkN (by rw [hT]; exact F.2.2.2.2 _ q) (by rw [hT]; exact fun _ h => h) (by rw [hT]) hd hnar hfit (by rw [hz_fs_len, ← hn]; exact hkN) d fun H1 locs1 g1 g2 g3 => kk H1 locs1 ?_ g3
  have he : (hz_wl τ dA loc S R I L).set (id - 1) (loc id, .inr (κ, (hz_fs τ loc R I κ id).set k (hz_rv loc r))) = hz_wl τ dA loc S (hz_u R id k r) I L := by
    refine hz_wl_set hk ?_ (fun j hj => ⟨hz_u_i _ _ hj, rfl, rfl⟩)
    unfold hz_e
    rw [if_pos h40.2, hz_fs_set_r ht hx]
  rw [he] at g1 g2
  exact ⟨g1, g2⟩
/-! arrays -/
theorem hz_iald (F : CallFix p m c cc nL s args lw_all own) (G : hz_G D dA A ro s) (hW : hz_W τ D dA A loc S R I L H) {id n : Nat} (hk : hz_ob τ S id 40 n) {i : Int32} (hin : vp_in i n) (d : decode cc pc = .ok (.iaload, 1))
    (kk : W p l e Rm s m args below meth c H locs cells slots Q (F0 m (pc + 1) ls (.int (I id i.toNatClampNeg) :: rest))) : W p l e Rm s m args below meth c H locs cells slots Q (F0 m pc ls (.int i :: .ref (loc id) :: rest)) :=
  va_iald F.1 F.2.1 G.K hW.1 (id - 1) 0 (hz_wl_i hk (by decide)) rfl hin d kk
theorem hz_bald (F : CallFix p m c cc nL s args lw_all own) (G : hz_G D dA A ro s) (hW : hz_W τ D dA A loc S R I L H) {id n : Nat} (hk : hz_ob τ S id 41 n) {i : Int32} (hin : vp_in i n) (d : decode cc pc = .ok (.baload, 1))
    (kk : W p l e Rm s m args below meth c H locs cells slots Q (F0 m (pc + 1) ls (.int (I id i.toNatClampNeg) :: rest))) : W p l e Rm s m args below meth c H locs cells slots Q (F0 m pc ls (.int i :: .ref (loc id) :: rest)) :=
  va_bald F.1 F.2.1 G.K hW.1 (id - 1) 1 (hz_wl_i hk (by decide)) rfl hin d kk
theorem hz_zald (F : CallFix p m c cc nL s args lw_all own) (G : hz_G D dA A ro s) (hW : hz_W τ D dA A loc S R I L H) {id n : Nat} (hk : hz_ob τ S id 42 n) {i : Int32} (hin : vp_in i n) (d : decode cc pc = .ok (.baload, 1))
    (kk : W p l e Rm s m args below meth c H locs cells slots Q (F0 m (pc + 1) ls (.int (I id i.toNatClampNeg) :: rest))) : W p l e Rm s m args below meth c H locs cells slots Q (F0 m pc ls (.int i :: .ref (loc id) :: rest)) :=
  va_zald F.1 F.2.1 G.K hW.1 (id - 1) 2 (hz_wl_i hk (by decide)) rfl hin d kk
theorem hz_sald (F : CallFix p m c cc nL s args lw_all own) (G : hz_G D dA A ro s) (hW : hz_W τ D dA A loc S R I L H) {id n : Nat} (hk : hz_ob τ S id 44 n) {i : Int32} (hin : vp_in i n) (d : decode cc pc = .ok (.saload, 1))
    (kk : W p l e Rm s m args below meth c H locs cells slots Q (F0 m (pc + 1) ls (.int (I id i.toNatClampNeg) :: rest))) : W p l e Rm s m args below meth c H locs cells slots Q (F0 m pc ls (.int i :: .ref (loc id) :: rest)) :=
  va_sald F.1 F.2.1 G.K hW.1 (id - 1) 4 (hz_wl_i hk (by decide)) rfl hin d kk
theorem hz_cald (F : CallFix p m c cc nL s args lw_all own) (G : hz_G D dA A ro s) (hW : hz_W τ D dA A loc S R I L H) {id n : Nat} (hk : hz_ob τ S id 45 n) {i : Int32} (hin : vp_in i n) (d : decode cc pc = .ok (.caload, 1))
    (kk : W p l e Rm s m args below meth c H locs cells slots Q (F0 m (pc + 1) ls (.int (I id i.toNatClampNeg) :: rest))) : W p l e Rm s m args below meth c H locs cells slots Q (F0 m pc ls (.int i :: .ref (loc id) :: rest)) :=
  va_cald F.1 F.2.1 G.K hW.1 (id - 1) 5 (hz_wl_i hk (by decide)) rfl hin d kk
theorem hz_lald (F : CallFix p m c cc nL s args lw_all own) (G : hz_G D dA A ro s) (hW : hz_W τ D dA A loc S R I L H) {id n : Nat} (hk : hz_ob τ S id 43 n) {i : Int32} (hin : vp_in i n) (d : decode cc pc = .ok (.laload, 1))
    (kk : W p l e Rm s m args below meth c H locs cells slots Q (F0 m (pc + 1) ls (.long (L id i.toNatClampNeg) :: rest))) : W p l e Rm s m args below meth c H locs cells slots Q (F0 m pc ls (.int i :: .ref (loc id) :: rest)) :=
  va_lald F.1 F.2.1 G.K hW.1 (id - 1) 3 (hz_wl_l hk) rfl hin d kk
theorem hz_aldS (F : CallFix p m c cc nL s args lw_all own) (G : hz_G D dA A ro s) (hW : hz_W τ D dA A loc S R I L H) {id n : Nat} (hk : hz_ob τ S id 46 n) {i : Int32} (hin : vp_in i n) (hx : τ.2.2 46 i.toNatClampNeg id = none) (d : decode cc pc = .ok (.aaload, 1))
    (kk : W p l e Rm s m args below meth c H locs cells slots Q (F0 m (pc + 1) ls (hz_rv loc (R id i.toNatClampNeg) :: rest))) : W p l e Rm s m args below meth c H locs cells slots Q (F0 m pc ls (.int i :: .ref (loc id) :: rest)) :=
  va_aldq F.1 F.2.1 G.K hW.1 (id - 1) 6 (hz_wl_q hk (by decide)) rfl hin d (by rw [hz_rf_ro]; unfold hz_rf; rw [hx]; exact kk)
theorem hz_aldP (F : CallFix p m c cc nL s args lw_all own) (G : hz_G D dA A ro s) (hW : hz_W τ D dA A loc S R I L H) {id n : Nat} (hk : hz_ob τ S id 47 n) {i : Int32} (hin : vp_in i n) (hx : τ.2.2 47 i.toNatClampNeg id = none) (d : decode cc pc = .ok (.aaload, 1))
    (kk : W p l e Rm s m args below meth c H locs cells slots Q (F0 m (pc + 1) ls (hz_rv loc (R id i.toNatClampNeg) :: rest))) : W p l e Rm s m args below meth c H locs cells slots Q (F0 m pc ls (.int i :: .ref (loc id) :: rest)) :=
  va_aldq F.1 F.2.1 G.K hW.1 (id - 1) 7 (hz_wl_q hk (by decide)) rfl hin d (by rw [hz_rf_ro]; unfold hz_rf; rw [hx]; exact kk)
/-- rows of a grid: their numbers are fixed by the table -/
theorem hz_aldA (F : CallFix p m c cc nL s args lw_all own) (G : hz_G D dA A ro s) (hW : hz_W τ D dA A loc S R I L H) {id n r : Nat} (hk : hz_ob τ S id 48 n) {i : Int32} (hin : vp_in i n) (hx : hz_rf τ R 48 i.toNatClampNeg id = r) (h0 : r ≠ 0) (d : decode cc pc = .ok (.aaload, 1))
    (kk : W p l e Rm s m args below meth c H locs cells slots Q (F0 m (pc + 1) ls (.ref (loc r) :: rest))) : W p l e Rm s m args below meth c H locs cells slots Q (F0 m pc ls (.int i :: .ref (loc id) :: rest)) := by
  have hlt : i.toNatClampNeg < n := Nat.not_le.mp fun q => hin (Or.inr q)
  have hv : va_rf (hz_ro loc (hz_rf τ R 48 i.toNatClampNeg id)) = .ref (loc r) := by rw [hz_rf_ro, hx]; exact hz_rv_ne h0
  exact W.aald (v := .ref (loc r)) (ty := .array .int) F.1 F.2.1 (hW.1 (id - 1) _ (hz_wl_q hk (by decide))) ((G.K.2 8 _ rfl).1 n (fun j => va_rf (hz_ro loc (hz_rf τ R 48 j id)))) rfl (fun q => by cases q) (by show ¬ (i < 0 ∨ (arrV _ _ _).slots.size ≤ _); rw [arrV_size]; exact hin) (by show (arrV _ _ _).slots[_]? = _; rw [arrV_read _ _ hlt, hv]) rfl rfl d kk
theorem hz_alen (F : CallFix p m c cc nL s args lw_all own) (G : hz_G D dA A ro s) (hW : hz_W τ D dA A loc S R I L H) {id κ n : Nat} (hk : hz_ob τ S id κ n) (h40 : 40 ≤ κ ∧ κ < 49) (d : decode cc pc = .ok (.arraylength, 1))
    (kk : W p l e Rm s m args below meth c H locs cells slots Q (F0 m (pc + 1) ls (.int (Int32.ofNat n) :: rest))) : W p l e Rm s m args below meth c H locs cells slots Q (F0 m pc ls (.ref (loc id) :: rest)) := by
  have h1 := hz_wl_ob (dA := dA) (loc := loc) (R := R) (I := I) (L := L) hk
  unfold hz_e at h1
  rw [if_neg (Nat.not_lt.mpr h40.1)] at h1
  have hn : (hz_ar τ loc R I L κ n id).1 = n := by
    unfold hz_ar
    split
    · rfl
    · split <;> rfl
  refine va_alen (v := Int32.ofNat n) (x := hz_ar τ loc R I L κ n id) (ty := hz_aty κ) F.1 F.2.1 G.K hW.1 (id - 1) (κ - 40) h1 ?_ (by rw [hn]) d kk
  obtain ⟨h2, h3⟩ := h40
  rcases (show κ = 40 ∨ κ = 41 ∨ κ = 42 ∨ κ = 43 ∨ κ = 44 ∨ κ = 45 ∨ κ = 46 ∨ κ = 47 ∨ κ = 48 by omega) with rfl | rfl | rfl | rfl | rfl | rfl | rfl | rfl | rfl <;> rfl
theorem hz_upd1 {I : hz_I} {id k : Nat} {v : Int32} : upd (I id) k v = hz_u I id k v id := by
  funext j
  unfold upd hz_u
  by_cases h : j = k
  · rw [if_pos h, if_pos ⟨rfl, h⟩]
  · rw [if_neg h, if_neg (fun z => h z.2)]
theorem hz_updL1 {L : hz_L} {id k : Nat} {v : Int64} : vp_updL (L id) k v = hz_u L id k v id := by
  funext j
  unfold vp_updL hz_u
  by_cases h : j = k
  · rw [if_pos h, if_pos ⟨rfl, h⟩]
  · rw [if_neg h, if_neg (fun z => h z.2)]
theorem hz_seti {id κ n k : Nat} {v : Int32} {H1 : Heap} (hk : hz_ob τ S id κ n) (hκ : κ = 40 ∨ κ = 41 ∨ κ = 42 ∨ κ = 44 ∨ κ = 45) (h1 : va_P D hz_cl ((hz_wl τ dA loc S R I L).set (id - 1) (loc id, .inl (dA κ, n, .inl (upd (I id) k v)))) H1) (h2 : va_D A ((hz_wl τ dA loc S R I L).set (id - 1) (loc id, .inl (dA κ, n, .inl (upd (I id) k v))))) : hz_W τ D dA A loc S R (hz_u I id k v) L H1 := by
  have he : (hz_wl τ dA loc S R I L).set (id - 1) (loc id, .inl (dA κ, n, .inl (upd (I id) k v))) = hz_wl τ dA loc S R (hz_u I id k v) L := by
    refine hz_wl_set hk ?_ (fun j hj => ⟨rfl, hz_u_i _ _ hj, rfl⟩)
    unfold hz_e hz_ar
    rw [hz_upd1]
    rcases hκ with rfl | rfl | rfl | rfl | rfl <;> rfl
  rw [he] at h1 h2
  exact ⟨h1, h2⟩
theorem hz_iast (F : CallFix p m c cc nL s args lw_all own) (G : hz_G D dA A ro s) (hW : hz_W τ D dA A loc S R I L H) (hS : va_S A s.heap H locs) {id n : Nat} (hk : hz_ob τ S id 40 n) {i v : Int32} (hin : vp_in i n) (d : decode cc pc = .ok (.iastore, 1))
    (kk : ∀ (H1 : Heap) (locs1 : List Loc), hz_W τ D dA A loc S R (hz_u I id i.toNatClampNeg v) L H1 → va_S A s.heap H1 locs1 → W p l e Rm s m args below meth c H1 locs1 cells slots Q (F0 m (pc + 1) ls rest)) : W p l e Rm s m args below meth c H locs cells slots Q (F0 m pc ls (.int v :: .int i :: .ref (loc id) :: rest)) :=
  va_iast F.1 F.2.1 G.K hW.1 hW.2 hS (id - 1) 0 (hz_wl_i hk (by decide)) rfl hin d fun H1 locs1 g1 g2 g3 => kk H1 locs1 (hz_seti hk (by decide) g1 g2) g3
theorem hz_bast (F : CallFix p m c cc nL s args lw_all own) (G : hz_G D dA A ro s) (hW : hz_W τ D dA A loc S R I L H) (hS : va_S A s.heap H locs) {id n : Nat} (hk : hz_ob τ S id 41 n) {i v : Int32} (hin : vp_in i n) (d : decode cc pc = .ok (.bastore, 1))
    (kk : ∀ (H1 : Heap) (locs1 : List Loc), hz_W τ D dA A loc S R (hz_u I id i.toNatClampNeg (vp_nar .byte v)) L H1 → va_S A s.heap H1 locs1 → W p l e Rm s m args below meth c H1 locs1 cells slots Q (F0 m (pc + 1) ls rest)) : W p l e Rm s m args below meth c H locs cells slots Q (F0 m pc ls (.int v :: .int i :: .ref (loc id) :: rest)) :=
  va_bast F.1 F.2.1 G.K hW.1 hW.2 hS (id - 1) 1 (hz_wl_i hk (by decide)) rfl hin d fun H1 locs1 g1 g2 g3 => kk H1 locs1 (hz_seti hk (by decide) g1 g2) g3
theorem hz_zast (F : CallFix p m c cc nL s args lw_all own) (G : hz_G D dA A ro s) (hW : hz_W τ D dA A loc S R I L H) (hS : va_S A s.heap H locs) {id n : Nat} (hk : hz_ob τ S id 42 n) {i v : Int32} (hin : vp_in i n) (d : decode cc pc = .ok (.bastore, 1))
    (kk : ∀ (H1 : Heap) (locs1 : List Loc), hz_W τ D dA A loc S R (hz_u I id i.toNatClampNeg (vp_nar .boolean v)) L H1 → va_S A s.heap H1 locs1 → W p l e Rm s m args below meth c H1 locs1 cells slots Q (F0 m (pc + 1) ls rest)) : W p l e Rm s m args below meth c H locs cells slots Q (F0 m pc ls (.int v :: .int i :: .ref (loc id) :: rest)) :=
  va_zast F.1 F.2.1 G.K hW.1 hW.2 hS (id - 1) 2 (hz_wl_i hk (by decide)) rfl hin d fun H1 locs1 g1 g2 g3 => kk H1 locs1 (hz_seti hk (by decide) g1 g2) g3
theorem hz_sast (F : CallFix p m c cc nL s args lw_all own) (G : hz_G D dA A ro s) (hW : hz_W τ D dA A loc S R I L H) (hS : va_S A s.heap H locs) {id n : Nat} (hk : hz_ob τ S id 44 n) {i v : Int32} (hin : vp_in i n) (d : decode cc pc = .ok (.sastore, 1))
    (kk : ∀ (H1 : Heap) (locs1 : List Loc), hz_W τ D dA A loc S R (hz_u I id i.toNatClampNeg (vp_nar .short v)) L H1 → va_S A s.heap H1 locs1 → W p l e Rm s m args below meth c H1 locs1 cells slots Q (F0 m (pc + 1) ls rest)) : W p l e Rm s m args below meth c H locs cells slots Q (F0 m pc ls (.int v :: .int i :: .ref (loc id) :: rest)) :=
  va_sast F.1 F.2.1 G.K hW.1 hW.2 hS (id - 1) 4 (hz_wl_i hk (by decide)) rfl hin d fun H1 locs1 g1 g2 g3 => kk H1 locs1 (hz_seti hk (by decide) g1 g2) g3
theorem hz_cast (F : CallFix p m c cc nL s args lw_all own) (G : hz_G D dA A ro s) (hW : hz_W τ D dA A loc S R I L H) (hS : va_S A s.heap H locs) {id n : Nat} (hk : hz_ob τ S id 45 n) {i v : Int32} (hin : vp_in i n) (d : decode cc pc = .ok (.castore, 1))
    (kk : ∀ (H1 : Heap) (locs1 : List Loc), hz_W τ D dA A loc S R (hz_u I id i.toNatClampNeg (vp_nar .char v)) L H1 → va_S A s.heap H1 locs1 → W p l e Rm s m args below meth c H1 locs1 cells slots Q (F0 m (pc + 1) ls rest)) : W p l e Rm s m args below meth c H locs cells slots Q (F0 m pc ls (.int v :: .int i :: .ref (loc id) :: rest)) :=
  va_cast F.1 F.2.1 G.K hW.1 hW.2 hS (id - 1) 5 (hz_wl_i hk (by decide)) rfl hin d fun H1 locs1 g1 g2 g3 => kk H1 locs1 (hz_seti hk (by decide) g1 g2) g3
theorem hz_last (F : CallFix p m c cc nL s args lw_all own) (G : hz_G D dA A ro s) (hW : hz_W τ D dA A loc S R I L H) (hS : va_S A s.heap H locs) {id n : Nat} (hk : hz_ob τ S id 43 n) {i : Int32} {v : Int64} (hin : vp_in i n) (d : decode cc pc = .ok (.lastore, 1))
    (kk : ∀ (H1 : Heap) (locs1 : List Loc), hz_W τ D dA A loc S R I (hz_u L id i.toNatClampNeg v) H1 → va_S A s.heap H1 locs1 → W p l e Rm s m args below meth c H1 locs1 cells slots Q (F0 m (pc + 1) ls rest)) : W p l e Rm s m args below meth c H locs cells slots Q (F0 m pc ls (.long v :: .int i :: .ref (loc id) :: rest)) :=
  va_last F.1 F.2.1 G.K hW.1 hW.2 hS (id - 1) 3 (hz_wl_l hk) rfl hin d fun H1 locs1 g1 g2 g3 => kk H1 locs1 (by
    have he : (hz_wl τ dA loc S R I L).set (id - 1) (loc id, .inl (dA 43, n, .inr (.inl (vp_updL (L id) i.toNatClampNeg v)))) = hz_wl τ dA loc S R I (hz_u L id i.toNatClampNeg v) := by
      refine hz_wl_set hk ?_ (fun j hj => ⟨rfl, rfl, hz_u_i _ _ hj⟩)
      unfold hz_e hz_ar
      rw [hz_updL1]
      rfl
    rw [he] at g1 g2
    exact ⟨g1, g2⟩) g3
/-! null or not -/
theorem hz_ifnull (F : CallFix p m c cc nL s args lw_all own) {r : Nat} {off : Int} {tgt : Nat} (d : decode cc pc = .ok (.ifnull off, 3)) (ht : (pc : Int) + off = (tgt : Int)) (kt : r = 0 → W p l e Rm s m args below meth c H locs cells slots Q (F0 m tgt ls rest)) (kf : ¬ r = 0 → W p l e Rm s m args below meth c H locs cells slots Q (F0 m (pc + 3) ls rest)) : W p l e Rm s m args below meth c H locs cells slots Q (F0 m pc ls (hz_rv loc r :: rest)) := by
  by_cases h : r = 0
  · subst h
    exact lv_ifnullN F.1 F.2.1 d ht (kt rfl)
  · rw [hz_rv_ne h]
    exact lv_ifnull F.1 F.2.1 d (kf h)
theorem hz_ifnonnull (F : CallFix p m c cc nL s args lw_all own) {r : Nat} {off : Int} {tgt : Nat} (d : decode cc pc = .ok (.ifnonnull off, 3)) (ht : (pc : Int) + off = (tgt : Int)) (kt : ¬ r = 0 → W p l e Rm s m args below meth c H locs cells slots Q (F0 m tgt ls rest)) (kf : r = 0 → W p l e Rm s m args below meth c H locs cells slots Q (F0 m (pc + 3) ls rest)) : W p l e Rm s m args below meth c H locs cells slots Q (F0 m pc ls (hz_rv loc r :: rest)) := by
  by_cases h : r = 0
  · subst h
    exact lv_ifnonnullN F.1 F.2.1 d (kf rfl)
  · rw [hz_rv_ne h]
    exact lv_ifnonnull F.1 F.2.1 d ht (kt h)
/-! calls -/
theorem hz_recv (G : hz_G D dA A ro s) (hW : hz_W τ D dA A loc S R I L H) {id κ n : Nat} (hk : hz_ob τ S id κ n) (h40 : κ < 40) {q : vw_C} (hc : hz_cl[κ]? = some q) : ∃ cell : Cell, H[loc id]? = some cell ∧ cell.vm.isStatics = false ∧ s.vm.findClass q.1 = some cell.cls := va_recv G.K hW.1 hc (hz_wl_o hk h40)
variable {mc ms : Nat} {a : Array Value} {st0 : List Value} {S' : hz_S} {R' : hz_R} {I' : hz_I} {L' : hz_L}
theorem hz_calli {r0 : Int32} (hr : va_Run p l e Rm s m args below meth c H locs cells slots mc ms (F0 m pc ls st0) rest (hz_Qi r0 τ D dA A loc S R' I' L' a) A) (hS : va_S A s.heap H locs)
    (kk : ∀ (H1 : Heap) (locs1 : List Loc), hz_W τ D dA A loc S R' I' L' H1 → va_S A s.heap H1 locs1 → W p l e Rm s m args below meth c H1 locs1 (cells + mc) (slots + ms) Q (F0 m (pc + 3) ls (.int r0 :: rest))) : W p l e Rm s m args below meth c H locs cells slots Q (F0 m pc ls st0) := by
  refine va_calli hr hS (fun _ _ h => h) (fun _ h => h) fun r u t H1 locs1 ht _ hp hB _ _ hS1 => ?_
  subst hp
  subst ht
  exact kk _ locs1 hB hS1
theorem hz_calll {r0 : Int64} (hr : va_Run p l e Rm s m args below meth c H locs cells slots mc ms (F0 m pc ls st0) rest (hz_Ql r0 τ D dA A loc S R' I' L' a) A) (hS : va_S A s.heap H locs)
    (kk : ∀ (H1 : Heap) (locs1 : List Loc), hz_W τ D dA A loc S R' I' L' H1 → va_S A s.heap H1 locs1 → W p l e Rm s m args below meth c H1 locs1 (cells + mc) (slots + ms) Q (F0 m (pc + 3) ls (.long r0 :: rest))) : W p l e Rm s m args below meth c H locs cells slots Q (F0 m pc ls st0) := by
  refine va_calll hr hS (fun _ _ h => h) (fun _ h => h) fun r u t H1 locs1 ht _ hp hB _ _ hS1 => ?_
  subst hp
  subst ht
  exact kk _ locs1 hB hS1
theorem hz_callv (hr : va_Run p l e Rm s m args below meth c H locs cells slots mc ms (F0 m pc ls st0) rest (hz_Qv τ D dA A loc S R' I' L' a) A) (hS : va_S A s.heap H locs)
    (kk : ∀ (H1 : Heap) (locs1 : List Loc), hz_W τ D dA A loc S R' I' L' H1 → va_S A s.heap H1 locs1 → W p l e Rm s m args below meth c H1 locs1 (cells + mc) (slots + ms) Q (F0 m (pc + 3) ls rest)) : W p l e Rm s m args below meth c H locs cells slots Q (F0 m pc ls st0) := by
  refine va_callv hr hS (fun _ _ h => h) (fun _ h => h) fun u t H1 locs1 ht _ hp hB _ _ hS1 => ?_
  subst ht
  exact kk _ locs1 hB hS1
/-- calls of contracts over the picture: through an object; static -/
theorem hz_runV (F : CallFix p m c cc nL s args lw_all own) (G : hz_G D dA A ro s) (hW : hz_W τ D dA A loc S R I L H) (hS : va_S A s.heap H locs) {y : MethodName} {bytes : ByteArray} {maxL n idx id κ n0 : Nat} {ret : Option FieldType} {rm : Room} {Qc : Array Value → State → Outcome → State → Prop} {As : List Value} {C : String} {T : u_T} {N : Nat}
    (hM : Met l y (ws_ y bytes maxL ret) rm (hz_P τ D dA A ro loc S R I L (.ref (loc id) :: As)) Qc mc ms A) (hrm : rm.cells = mc ∧ rm.slots = ms) (hw : GoodIn lw_all (wsV own idx C y (ws_ y bytes maxL ret))) (hk : hz_ob τ S id κ n0) (h40 : κ < 40) (hc : hz_cl[κ]? = some (C, T, N))
    (hd : y.cls = C ∧ y.cls ≠ "java/lang/invoke/MethodHandle" ∧ y.cls ≠ "java/lang/invoke/VarHandle" ∧ (parseMethodDescriptor y.desc).map (fun d => d.parameters.length) = some n) (hR : rm.frames + 1 ≤ Rm.frames ∧ 8 + (maxL + 11) + rm.locals ≤ Rm.locals)
    (hn : As.length = n) (hl : ls.size = nL) (hst : st0 = As.reverse ++ .ref (loc id) :: rest) (hcat : (rest.map fun v => v.category).sum ≤ 8) (d : decode cc pc = .ok (.invokevirtual idx, 3)) (hf : cells + mc ≤ Rm.cells ∧ slots + ms ≤ Rm.slots) :
    va_Run p l e Rm s m args below meth c H locs cells slots mc ms (F0 m pc ls st0) rest (Qc (Value.ref (loc id) :: As).toArray) A :=
  va_runV (As := As) (rest := rest) F hM (cwV n F.2.2.2.2 hw rfl hrm.1 hrm.2 hd hR) ⟨hz_P.blind, hz_recv G hW hk h40 hc, hz_P.pay G hS hW⟩ rfl hn hl hst (lv_room hcat) d hf
theorem hz_runS (F : CallFix p m c cc nL s args lw_all own) (G : hz_G D dA A ro s) (hW : hz_W τ D dA A loc S R I L H) (hS : va_S A s.heap H locs) {y : MethodName} {bytes : ByteArray} {maxL n idx : Nat} {ret : Option FieldType} {rm : Room} {Qc : Array Value → State → Outcome → State → Prop} {As : List Value}
    (hM : Met l y (ws_ y bytes maxL ret) rm (hz_P τ D dA A ro loc S R I L As) Qc mc ms A) (hrm : rm.cells = mc ∧ rm.slots = ms) (hw : GoodIn lw_all (va_wsS own idx y (ws_ y bytes maxL ret)))
    (hd : y.cls ≠ "java/lang/invoke/MethodHandle" ∧ y.cls ≠ "java/lang/invoke/VarHandle" ∧ (parseMethodDescriptor y.desc).map (fun d => d.parameters.length) = some n) (hR : rm.frames + 1 ≤ Rm.frames ∧ 8 + (maxL + 11) + rm.locals ≤ Rm.locals)
    (hn : As.length = n) (hl : ls.size = nL) (hst : st0 = As.reverse ++ rest) (hcat : (rest.map fun v => v.category).sum ≤ 8) (d : decode cc pc = .ok (.invokestatic idx, 3)) (hf : cells + mc ≤ Rm.cells ∧ slots + ms ≤ Rm.slots) :
    va_Run p l e Rm s m args below meth c H locs cells slots mc ms (F0 m pc ls st0) rest (Qc As.toArray) A :=
  va_runS (As := As) (rest := rest) F hM (va_cwS n F.2.2.2.2 hw rfl hrm.1 hrm.2 hd hR) ⟨hz_P.blind, hz_P.pay G hS hW⟩ rfl hn hl hst (lv_room hcat) d hf
/-! ends -/
theorem hz_iret (F : CallFix p m c cc nL s args lw_all own) (hr : meth.sig.returnType = some .int) (hlk : meth.locks = false) (hS : va_S A s.heap H locs) {v r0 : Int32} (hv : v = r0) (hW : hz_W τ D dA A loc S R I L H) (d : decode cc pc = .ok (.ireturn, 1)) :
    W p l e Rm s m args below meth c H locs cells slots (MQ below (hz_Qi r0 τ D dA A loc S R I L) args s cells slots A) (F0 m pc ls [.int v]) := by
  subst hv
  exact W.iret F.1 F.2.1 hr (fun t ht _ => ⟨⟨v, (), rfl, rfl, by subst ht; exact hW⟩, hS.F ht⟩) hS.2.2 d
theorem hz_zret (F : CallFix p m c cc nL s args lw_all own) (hr : meth.sig.returnType = some .boolean) (hlk : meth.locks = false) (hS : va_S A s.heap H locs) {v r0 : Int32} (hv : v = r0) (hb : narrow .boolean (.int v) = .int v) (hW : hz_W τ D dA A loc S R I L H) (d : decode cc pc = .ok (.ireturn, 1)) :
    W p l e Rm s m args below meth c H locs cells slots (MQ below (hz_Qi r0 τ D dA A loc S R I L) args s cells slots A) (F0 m pc ls [.int v]) := by
  subst hv
  exact W.zret F.1 F.2.1 hr hb (fun t ht _ => ⟨⟨v, (), rfl, rfl, by subst ht; exact hW⟩, hS.F ht⟩) hS.2.2 d
theorem hz_lret (F : CallFix p m c cc nL s args lw_all own) (hr : meth.sig.returnType = some .long) (hlk : meth.locks = false) (hS : va_S A s.heap H locs) {v r0 : Int64} (hv : v = r0) (hW : hz_W τ D dA A loc S R I L H) (d : decode cc pc = .ok (.lreturn, 1)) :
    W p l e Rm s m args below meth c H locs cells slots (MQ below (hz_Ql r0 τ D dA A loc S R I L) args s cells slots A) (F0 m pc ls [.long v]) := by
  subst hv
  exact W.lret F.1 F.2.1 hr (fun t ht _ => ⟨⟨v, (), rfl, rfl, by subst ht; exact hW⟩, hS.F ht⟩) hS.2.2 d
theorem hz_vret (F : CallFix p m c cc nL s args lw_all own) (hr : meth.sig.returnType = none) (hlk : meth.locks = false) (hS : va_S A s.heap H locs) (hW : hz_W τ D dA A loc S R I L H) (d : decode cc pc = .ok (.return_, 1)) :
    W p l e Rm s m args below meth c H locs cells slots (MQ below (hz_Qv τ D dA A loc S R I L) args s cells slots A) (F0 m pc ls []) :=
  W.vret F.1 F.2.1 hr (fun t ht _ => ⟨⟨(), rfl, trivial, by subst ht; exact hW⟩, hS.F ht⟩) hS.2.2 d
end HZR
/-! pure functions: a part that must be there -/
theorem hz_gd {α : Type} {P : Prop} [Decidable P] {x : Option α} {y : α} (h : (if P then x else none) = some y) : P ∧ x = some y := by
  by_cases hp : P
  · rw [if_pos hp] at h
    exact ⟨hp, h⟩
  · rw [if_neg hp] at h
    cases h
theorem hz_bd {α β : Type} {x : Option α} {f : α → Option β} {y : β} (h : x.bind f = some y) : ∃ a, x = some a ∧ f a = some y := by
  cases x with
  | none => cases h
  | some a => exact ⟨a, rfl, h⟩
