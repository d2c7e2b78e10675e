/-! ===== CORE: one picture of a world. Cells have numbers; a number has a kind; ints, longs and references by number and place; an address for each number ===== -/
abbrev hz_X : Type := Nat × Nat
abbrev hz_S : Type := Nat × (Nat → hz_X)
abbrev hz_I : Type := Nat → Nat → Int32
abbrev hz_L : Type := Nat → Nat → Int64
abbrev hz_R : Type := Nat → Nat → Nat
abbrev hz_T : Type := Nat × (Nat → hz_X) × (Nat → Nat → Nat → Option Nat)
/-- the kind and length of a cell: fixed below the table's bound, as made above it -/
def hz_sh (τ : hz_T) (S : hz_S) (id : Nat) : hz_X := if id < τ.1 then τ.2.1 id else S.2 id
def hz_cl : List vw_C := [(RJ4, TJ4, 2), (RX1, TX1, 30), (RX2, TX2, 10), (RX4, TX4, 2), (RX5, TX5, 3), (RX11, TX11, 4), (RX12, TX12, 3), (RX13, TX13, 3), (RX7, TX7, 4), (RX9, TX9, 7), (RX10, TX10, 8), (RX14, TX14, 3), (RX6, TX6, 53), (RJ4, TJ4, 4), (RX8, TX8, 7)]
def hz_ty (κ : Nat) : Nat → FieldType := match κ with
  | 0 => tyJ4
  | 1 => tyX1
  | 2 => tyX2
  | 3 => tyX4
  | 4 => tyX5
  | 5 => tyX11
  | 6 => tyX12
  | 7 => tyX13
  | 8 => tyX7
  | 9 => tyX9
  | 10 => tyX10
  | 11 => tyX14
  | 12 => tyX6
  | 13 => tyJ4
  | _ => tyX8
def hz_n (κ : Nat) : Nat := match κ with
  | 0 => 2
  | 1 => 30
  | 2 => 10
  | 3 => 2
  | 4 => 3
  | 5 => 4
  | 6 => 3
  | 7 => 3
  | 8 => 4
  | 9 => 7
  | 10 => 8
  | 11 => 3
  | 12 => 53
  | 13 => 4
  | _ => 7
def hz_isR : FieldType → Bool
  | .object _ => true
  | .array _ => true
  | _ => false
/-- a reference's value: 0 is null -/
def hz_rv (loc : Nat → Nat) (r : Nat) : Value := if r = 0 then .null else .ref (loc r)
def hz_ro (loc : Nat → Nat) (r : Nat) : Option Nat := if r = 0 then none else some (loc r)
theorem hz_rf_ro (loc : Nat → Nat) (r : Nat) : va_rf (hz_ro loc r) = hz_rv loc r := by
  unfold hz_ro hz_rv
  split <;> rfl
theorem hz_rv_ne {loc : Nat → Nat} {r : Nat} (h : r ≠ 0) : hz_rv loc r = .ref (loc r) := if_neg h
theorem hz_rv_0 {loc : Nat → Nat} : hz_rv loc 0 = .null := rfl
theorem hz_rv_s {loc : Nat → Nat} (r : Nat) : hz_rv loc (r + 1) = .ref (loc (r + 1)) := if_neg (Nat.succ_ne_zero r)
theorem hz_rv_cat {loc : Nat → Nat} {r : Nat} : (hz_rv loc r).category = 1 := by
  unfold hz_rv
  split <;> rfl
/-- a reference held in place k of the cell id: fixed by the table, or as R has it -/
def hz_rf (τ : hz_T) (R : hz_R) (κ k id : Nat) : Nat := match τ.2.2 κ k id with
  | some r => r
  | none => R id k
def hz_fv (τ : hz_T) (loc : Nat → Nat) (R : hz_R) (I : hz_I) (κ id k : Nat) : Value := if hz_isR (hz_ty κ k) = true then hz_rv loc (hz_rf τ R κ k id) else .int (I id k)
def hz_fs (τ : hz_T) (loc : Nat → Nat) (R : hz_R) (I : hz_I) (κ id : Nat) : List Value := (List.range (hz_n κ)).map (hz_fv τ loc R I κ id)
/-- kinds: below 40 objects of a class, 40 int[] 41 byte[] 42 boolean[] 43 long[] 44 short[] 45 char[] 46 Street[] 47 Page[] 48 int[][] -/
def hz_ar (τ : hz_T) (loc : Nat → Nat) (R : hz_R) (I : hz_I) (L : hz_L) (κ n id : Nat) : vp_A := if κ = 43 then (n, .inr (.inl (L id))) else if κ < 46 then (n, .inl (I id)) else (n, .inr (.inr (.inr (.inr (fun j => hz_ro loc (hz_rf τ R κ j id))))))
def hz_e (τ : hz_T) (dA : Nat → ClassId) (loc : Nat → Nat) (R : hz_R) (I : hz_I) (L : hz_L) (x : hz_X) (id : Nat) : va_E := if x.1 < 40 then .inr (x.1, hz_fs τ loc R I x.1 id) else .inl (dA x.1, hz_ar τ loc R I L x.1 x.2 id)
def hz_wl (τ : hz_T) (dA : Nat → ClassId) (loc : Nat → Nat) (S : hz_S) (R : hz_R) (I : hz_I) (L : hz_L) : va_W := (List.range (S.1 - 1)).map (fun j => (loc (j + 1), hz_e τ dA loc R I L (hz_sh τ S (j + 1)) (j + 1)))
/-- the heap holds the world, its cells are apart and lie in A -/
def hz_W (τ : hz_T) (D : va_G) (dA : Nat → ClassId) (A : Nat → Prop) (loc : Nat → Nat) (S : hz_S) (R : hz_R) (I : hz_I) (L : hz_L) (H : Heap) : Prop := va_P D hz_cl (hz_wl τ dA loc S R I L) H ∧ va_D A (hz_wl τ dA loc S R I L)
/-- the cell id is there, of kind κ and length n -/
def hz_ob (τ : hz_T) (S : hz_S) (id κ n : Nat) : Prop := hz_sh τ S id = (κ, n) ∧ id < S.1 ∧ 0 < id
def hz_aty (κ : Nat) : FieldType := match κ with
  | 40 => .int
  | 41 => .byte
  | 42 => .boolean
  | 43 => .long
  | 44 => .short
  | 45 => .char
  | 46 => .object "BehindAnotherHearse$Street"
  | 47 => .object "BehindAnotherHearse$Page"
  | _ => .array .int
def hz_tys (dA : Nat → ClassId) : List (ClassId × FieldType) := [(dA 40, .int), (dA 41, .byte), (dA 42, .boolean), (dA 43, .long), (dA 44, .short), (dA 45, .char), (dA 46, .object "BehindAnotherHearse$Street"), (dA 47, .object "BehindAnotherHearse$Page"), (dA 48, .array .int)]
/-! updates -/
def hz_u {α : Type} (I : Nat → Nat → α) (id k : Nat) (v : α) : Nat → Nat → α := fun a j => if a = id ∧ j = k then v else I a j
theorem hz_u_s {α : Type} (I : Nat → Nat → α) (id k : Nat) (v : α) : hz_u I id k v id k = v := if_pos ⟨rfl, rfl⟩
theorem hz_u_n {α : Type} (I : Nat → Nat → α) {id k a j : Nat} (v : α) (h : ¬ (a = id ∧ j = k)) : hz_u I id k v a j = I a j := if_neg h
theorem hz_u_i {α : Type} (I : Nat → Nat → α) {id k a : Nat} (v : α) (h : a ≠ id) : hz_u I id k v a = I a := by
  funext j
  exact if_neg fun z => h z.1
/-! the list of a world's cells -/
theorem hz_wl_at {τ : hz_T} {dA : Nat → ClassId} {loc : Nat → Nat} {S : hz_S} {R : hz_R} {I : hz_I} {L : hz_L} {id : Nat} (h : id < S.1) (h0 : 0 < id) : (hz_wl τ dA loc S R I L)[id - 1]? = some (loc id, hz_e τ dA loc R I L (hz_sh τ S id) id) := by
  unfold hz_wl
  rw [List.getElem?_map, List.getElem?_range (by omega)]
  have e : id - 1 + 1 = id := by omega
  show some (loc (id - 1 + 1), hz_e τ dA loc R I L (hz_sh τ S (id - 1 + 1)) (id - 1 + 1)) = _
  rw [e]
theorem hz_wl_ge {τ : hz_T} {dA : Nat → ClassId} {loc : Nat → Nat} {S : hz_S} {R : hz_R} {I : hz_I} {L : hz_L} {j : Nat} (h : S.1 - 1 ≤ j) : (hz_wl τ dA loc S R I L)[j]? = none := by
  unfold hz_wl
  rw [List.getElem?_map, List.getElem?_eq_none (by rw [List.length_range]; exact h)]
  rfl
theorem hz_wl_lt {τ : hz_T} {dA : Nat → ClassId} {loc : Nat → Nat} {S : hz_S} {R : hz_R} {I : hz_I} {L : hz_L} {j : Nat} (h : j < S.1 - 1) : (hz_wl τ dA loc S R I L)[j]? = some (loc (j + 1), hz_e τ dA loc R I L (hz_sh τ S (j + 1)) (j + 1)) := by
  unfold hz_wl
  rw [List.getElem?_map, List.getElem?_range h]
  rfl
theorem hz_wl_ob {τ : hz_T} {dA : Nat → ClassId} {loc : Nat → Nat} {S : hz_S} {R : hz_R} {I : hz_I} {L : hz_L} {id κ n : Nat} (h : hz_ob τ S id κ n) : (hz_wl τ dA loc S R I L)[id - 1]? = some (loc id, hz_e τ dA loc R I L (κ, n) id) := by
  rw [hz_wl_at h.2.1 h.2.2, h.1]
theorem hz_wl_o {τ : hz_T} {dA : Nat → ClassId} {loc : Nat → Nat} {S : hz_S} {R : hz_R} {I : hz_I} {L : hz_L} {id κ n : Nat} (h : hz_ob τ S id κ n) (hk : κ < 40) : (hz_wl τ dA loc S R I L)[id - 1]? = some (loc id, .inr (κ, hz_fs τ loc R I κ id)) := by
  rw [hz_wl_ob h]
  unfold hz_e
  rw [if_pos hk]
theorem hz_wl_i {τ : hz_T} {dA : Nat → ClassId} {loc : Nat → Nat} {S : hz_S} {R : hz_R} {I : hz_I} {L : hz_L} {id κ n : Nat} (h : hz_ob τ S id κ n) (hk : κ = 40 ∨ κ = 41 ∨ κ = 42 ∨ κ = 44 ∨ κ = 45) : (hz_wl τ dA loc S R I L)[id - 1]? = some (loc id, .inl (dA κ, n, .inl (I id))) := by
  rw [hz_wl_ob h]
  unfold hz_e hz_ar
  rcases hk with rfl | rfl | rfl | rfl | rfl <;> rfl
theorem hz_wl_l {τ : hz_T} {dA : Nat → ClassId} {loc : Nat → Nat} {S : hz_S} {R : hz_R} {I : hz_I} {L : hz_L} {id n : Nat} (h : hz_ob τ S id 43 n) : (hz_wl τ dA loc S R I L)[id - 1]? = some (loc id, .inl (dA 43, n, .inr (.inl (L id)))) := by
  rw [hz_wl_ob h]
  rfl
theorem hz_wl_q {τ : hz_T} {dA : Nat → ClassId} {loc : Nat → Nat} {S : hz_S} {R : hz_R} {I : hz_I} {L : hz_L} {id κ n : Nat} (h : hz_ob τ S id κ n) (hk : κ = 46 ∨ κ = 47 ∨ κ = 48) : (hz_wl τ dA loc S R I L)[id - 1]? = some (loc id, .inl (dA κ, n, .inr (.inr (.inr (.inr (fun j => hz_ro loc (hz_rf τ R κ j id))))))) := by
  rw [hz_wl_ob h]
  unfold hz_e hz_ar
  rcases hk with rfl | rfl | rfl <;> rfl
theorem hz_fs_len {τ : hz_T} {loc : Nat → Nat} {R : hz_R} {I : hz_I} {κ id : Nat} : (hz_fs τ loc R I κ id).length = hz_n κ := by
  unfold hz_fs
  rw [List.length_map, List.length_range]
theorem hz_fs_at {τ : hz_T} {loc : Nat → Nat} {R : hz_R} {I : hz_I} {κ id k : Nat} (h : k < hz_n κ) : (hz_fs τ loc R I κ id)[k]? = some (hz_fv τ loc R I κ id k) := by
  unfold hz_fs
  rw [List.getElem?_map, List.getElem?_range h]
  rfl
/-- one cell changed: the list of another memory -/
theorem hz_wl_set {τ : hz_T} {dA : Nat → ClassId} {loc : Nat → Nat} {S : hz_S} {R R' : hz_R} {I I' : hz_I} {L L' : hz_L} {id κ n : Nat} {e : va_E} (h : hz_ob τ S id κ n) (he : hz_e τ dA loc R' I' L' (κ, n) id = e) (ho : ∀ j, j ≠ id → R' j = R j ∧ I' j = I j ∧ L' j = L j) : (hz_wl τ dA loc S R I L).set (id - 1) (loc id, e) = hz_wl τ dA loc S R' I' L' := by
  have h1 := h.2.1
  have h0 := h.2.2
  apply List.ext_getElem?
  intro j
  by_cases hj : j = id - 1
  · subst hj
    rw [List.getElem?_set_self (by unfold hz_wl; rw [List.length_map, List.length_range]; omega), hz_wl_ob h, he]
  · rw [List.getElem?_set_ne (Ne.symm hj)]
    by_cases hl : j < S.1 - 1
    · obtain ⟨h1, h2, h3⟩ := ho (j + 1) (by omega)
      rw [hz_wl_lt hl, hz_wl_lt hl]
      have hR : ∀ κ k, hz_rf τ R' κ k (j + 1) = hz_rf τ R κ k (j + 1) := fun κ k => by unfold hz_rf; rw [h1]
      unfold hz_e hz_ar hz_fs
      have hf : hz_fv τ loc R' I' (hz_sh τ S (j + 1)).1 (j + 1) = hz_fv τ loc R I (hz_sh τ S (j + 1)).1 (j + 1) := by
        funext k
        unfold hz_fv
        rw [hR, h2]
      rw [hf, h2, h3]
      simp only [hR]
    · rw [hz_wl_ge (Nat.le_of_not_lt hl), hz_wl_ge (Nat.le_of_not_lt hl)]
theorem hz_fs_set_i {τ : hz_T} {loc : Nat → Nat} {R : hz_R} {I : hz_I} {κ id k : Nat} {v : Int32} (hr : hz_isR (hz_ty κ k) = false) : (hz_fs τ loc R I κ id).set k (.int v) = hz_fs τ loc R (hz_u I id k v) κ id := by
  apply List.ext_getElem?
  intro j
  by_cases hl : j < hz_n κ
  · rw [hz_fs_at hl]
    by_cases hj : j = k
    · subst hj
      rw [List.getElem?_set_self (by rw [hz_fs_len]; exact hl)]
      unfold hz_fv
      rw [if_neg (by rw [hr]; decide), hz_u_s]
    · rw [List.getElem?_set_ne (Ne.symm hj), hz_fs_at hl]
      unfold hz_fv
      rw [hz_u_n _ _ (fun z => hj z.2)]
  · rw [List.getElem?_eq_none (by rw [List.length_set, hz_fs_len]; omega), List.getElem?_eq_none (by rw [hz_fs_len]; omega)]
theorem hz_fs_set_r {τ : hz_T} {loc : Nat → Nat} {R : hz_R} {I : hz_I} {κ id k r : Nat} (hr : hz_isR (hz_ty κ k) = true) (hx : τ.2.2 κ k id = none) : (hz_fs τ loc R I κ id).set k (hz_rv loc r) = hz_fs τ loc (hz_u R id k r) I κ id := by
  apply List.ext_getElem?
  intro j
  by_cases hl : j < hz_n κ
  · rw [hz_fs_at hl]
    by_cases hj : j = k
    · subst hj
      rw [List.getElem?_set_self (by rw [hz_fs_len]; exact hl)]
      unfold hz_fv hz_rf
      rw [if_pos hr, hx]
      show _ = some (hz_rv loc (hz_u R id j r id j))
      rw [hz_u_s]
    · rw [List.getElem?_set_ne (Ne.symm hj), hz_fs_at hl]
      unfold hz_fv hz_rf
      rw [hz_u_n _ _ (fun z => hj z.2)]
  · rw [List.getElem?_eq_none (by rw [List.length_set, hz_fs_len]; omega), List.getElem?_eq_none (by rw [hz_fs_len]; omega)]
/-! a world among which a memory of the same contents -/
theorem hz_W.congr {τ : hz_T} {D : va_G} {dA : Nat → ClassId} {A : Nat → Prop} {loc : Nat → Nat} {S : hz_S} {R R' : hz_R} {I I' : hz_I} {L L' : hz_L} {H : Heap} (h : hz_W τ D dA A loc S R I L H) (hR : R = R') (hI : I = I') (hL : L = L') : hz_W τ D dA A loc S R' I' L' H := by
  subst hR; subst hI; subst hL
  exact h
theorem hz_W.at' {τ : hz_T} {D : va_G} {dA : Nat → ClassId} {A : Nat → Prop} {loc : Nat → Nat} {S : hz_S} {R : hz_R} {I : hz_I} {L : hz_L} {H : Heap} (h : hz_W τ D dA A loc S R I L H) {id κ n : Nat} (ho : hz_ob τ S id κ n) : va_at D hz_cl (loc id, hz_e τ dA loc R I L (κ, n) id) H := h.1 (id - 1) _ (hz_wl_ob ho)
theorem hz_W.A' {τ : hz_T} {D : va_G} {dA : Nat → ClassId} {A : Nat → Prop} {loc : Nat → Nat} {S : hz_S} {R : hz_R} {I : hz_I} {L : hz_L} {H : Heap} (h : hz_W τ D dA A loc S R I L H) {id : Nat} (ho : id < S.1) (h0 : 0 < id) : A (loc id) := h.2.2 (id - 1) _ (hz_wl_at ho h0)
theorem hz_W.lt {τ : hz_T} {D : va_G} {dA : Nat → ClassId} {A : Nat → Prop} {loc : Nat → Nat} {S : hz_S} {R : hz_R} {I : hz_I} {L : hz_L} {H : Heap} (h : hz_W τ D dA A loc S R I L H) {id : Nat} (ho : id < S.1) (h0 : 0 < id) : loc id < H.size := va_at.lt (h.1 (id - 1) _ (hz_wl_at ho h0))
theorem hz_W.inj {τ : hz_T} {D : va_G} {dA : Nat → ClassId} {A : Nat → Prop} {loc : Nat → Nat} {S : hz_S} {R : hz_R} {I : hz_I} {L : hz_L} {H : Heap} (h : hz_W τ D dA A loc S R I L H) {i j : Nat} (hi : i < S.1) (hj : j < S.1) (hi0 : 0 < i) (hj0 : 0 < j) (e : loc i = loc j) : i = j := by
  have := h.2.1 (i - 1) (j - 1) _ _ (hz_wl_at hi hi0) (hz_wl_at hj hj0) e
  omega
