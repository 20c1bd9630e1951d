set_option maxRecDepth 100000
/-! ABSTRACT HEAP: tag, length, ints, longs, refs by (ref, place). A ref is a number: 0 is null, n+1 is the cell n. Tags: 0 no cell; k+1 an object of the k-th kind of zz_cl; 64 int[], 65 long[], 66 byte[], 67 short[], 68 Tray[], 69 House[], 70 Step[]. -/
abbrev AH : Type := List Nat × (Nat → Nat) × (Nat → Nat) × (Nat → Nat → Int32) × (Nat → Nat → Int64) × (Nat → Nat → Nat)
def ah_D (h : AH) : List Nat := h.1
def ah_T (h : AH) : Nat → Nat := h.2.1
def ah_N (h : AH) : Nat → Nat := h.2.2.1
def ah_I (h : AH) : Nat → Nat → Int32 := h.2.2.2.1
def ah_L (h : AH) : Nat → Nat → Int64 := h.2.2.2.2.1
def ah_R (h : AH) : Nat → Nat → Nat := h.2.2.2.2.2
def ah_up {α : Type} (f : Nat → Nat → α) (r k : Nat) (v : α) : Nat → Nat → α := fun x j => if x = r ∧ j = k then v else f x j
def ah_row {α : Type} (f : Nat → Nat → α) (r : Nat) (g : Nat → α) : Nat → Nat → α := fun x j => if x = r then g j else f x j
def ah_sI (h : AH) (r k : Nat) (v : Int32) : AH := (ah_D h, ah_T h, ah_N h, ah_up (ah_I h) r k v, ah_L h, ah_R h)
def ah_sL (h : AH) (r k : Nat) (v : Int64) : AH := (ah_D h, ah_T h, ah_N h, ah_I h, ah_up (ah_L h) r k v, ah_R h)
def ah_sR (h : AH) (r k : Nat) (v : Nat) : AH := (ah_D h, ah_T h, ah_N h, ah_I h, ah_L h, ah_up (ah_R h) r k v)
def ah_rI (h : AH) (r : Nat) (g : Nat → Int32) : AH := (ah_D h, ah_T h, ah_N h, ah_row (ah_I h) r g, ah_L h, ah_R h)
def ah_rL (h : AH) (r : Nat) (g : Nat → Int64) : AH := (ah_D h, ah_T h, ah_N h, ah_I h, ah_row (ah_L h) r g, ah_R h)
def ah_rR (h : AH) (r : Nat) (g : Nat → Nat) : AH := (ah_D h, ah_T h, ah_N h, ah_I h, ah_L h, ah_row (ah_R h) r g)
def ah_new (h : AH) (r t n : Nat) : AH := (ah_D h ++ [r], fun x => if x = r then t else ah_T h x, fun x => if x = r then n else ah_N h x, ah_row (ah_I h) r (fun _ => 0), ah_row (ah_L h) r (fun _ => 0), ah_row (ah_R h) r (fun _ => 0))
section AHS
variable {h : AH} {r k t n x j : Nat}
theorem T_sI {v : Int32} : ah_T (ah_sI h r k v) = ah_T h := rfl
theorem N_sI {v : Int32} : ah_N (ah_sI h r k v) = ah_N h := rfl
theorem L_sI {v : Int32} : ah_L (ah_sI h r k v) = ah_L h := rfl
theorem R_sI {v : Int32} : ah_R (ah_sI h r k v) = ah_R h := rfl
theorem D_sI {v : Int32} : ah_D (ah_sI h r k v) = ah_D h := rfl
theorem I_sI {v : Int32} : ah_I (ah_sI h r k v) x j = if x = r ∧ j = k then v else ah_I h x j := rfl
theorem T_sL {v : Int64} : ah_T (ah_sL h r k v) = ah_T h := rfl
theorem N_sL {v : Int64} : ah_N (ah_sL h r k v) = ah_N h := rfl
theorem I_sL {v : Int64} : ah_I (ah_sL h r k v) = ah_I h := rfl
theorem R_sL {v : Int64} : ah_R (ah_sL h r k v) = ah_R h := rfl
theorem D_sL {v : Int64} : ah_D (ah_sL h r k v) = ah_D h := rfl
theorem L_sL {v : Int64} : ah_L (ah_sL h r k v) x j = if x = r ∧ j = k then v else ah_L h x j := rfl
theorem T_sR {v : Nat} : ah_T (ah_sR h r k v) = ah_T h := rfl
theorem N_sR {v : Nat} : ah_N (ah_sR h r k v) = ah_N h := rfl
theorem I_sR {v : Nat} : ah_I (ah_sR h r k v) = ah_I h := rfl
theorem L_sR {v : Nat} : ah_L (ah_sR h r k v) = ah_L h := rfl
theorem D_sR {v : Nat} : ah_D (ah_sR h r k v) = ah_D h := rfl
theorem R_sR {v : Nat} : ah_R (ah_sR h r k v) x j = if x = r ∧ j = k then v else ah_R h x j := rfl
theorem T_rI {g : Nat → Int32} : ah_T (ah_rI h r g) = ah_T h := rfl
theorem N_rI {g : Nat → Int32} : ah_N (ah_rI h r g) = ah_N h := rfl
theorem L_rI {g : Nat → Int32} : ah_L (ah_rI h r g) = ah_L h := rfl
theorem R_rI {g : Nat → Int32} : ah_R (ah_rI h r g) = ah_R h := rfl
theorem I_rI {g : Nat → Int32} : ah_I (ah_rI h r g) x j = if x = r then g j else ah_I h x j := rfl
theorem T_rL {g : Nat → Int64} : ah_T (ah_rL h r g) = ah_T h := rfl
theorem N_rL {g : Nat → Int64} : ah_N (ah_rL h r g) = ah_N h := rfl
theorem I_rL {g : Nat → Int64} : ah_I (ah_rL h r g) = ah_I h := rfl
theorem R_rL {g : Nat → Int64} : ah_R (ah_rL h r g) = ah_R h := rfl
theorem L_rL {g : Nat → Int64} : ah_L (ah_rL h r g) x j = if x = r then g j else ah_L h x j := rfl
theorem T_rR {g : Nat → Nat} : ah_T (ah_rR h r g) = ah_T h := rfl
theorem N_rR {g : Nat → Nat} : ah_N (ah_rR h r g) = ah_N h := rfl
theorem I_rR {g : Nat → Nat} : ah_I (ah_rR h r g) = ah_I h := rfl
theorem L_rR {g : Nat → Nat} : ah_L (ah_rR h r g) = ah_L h := rfl
theorem R_rR {g : Nat → Nat} : ah_R (ah_rR h r g) x j = if x = r then g j else ah_R h x j := rfl
theorem T_new : ah_T (ah_new h r t n) x = if x = r then t else ah_T h x := rfl
theorem N_new : ah_N (ah_new h r t n) x = if x = r then n else ah_N h x := rfl
theorem I_new : ah_I (ah_new h r t n) x j = if x = r then 0 else ah_I h x j := rfl
theorem L_new : ah_L (ah_new h r t n) x j = if x = r then 0 else ah_L h x j := rfl
theorem R_new : ah_R (ah_new h r t n) x j = if x = r then 0 else ah_R h x j := rfl
end AHS
/-! the machine's cells out of it -/
def ah_rr (r : Nat) : Value := match r with
  | 0 => .null
  | n + 1 => .ref n
def ah_ro (r : Nat) : Option Nat := match r with
  | 0 => none
  | n + 1 => some n
theorem ah_rf (r : Nat) : va_rf (ah_ro r) = ah_rr r := by cases r <;> rfl
theorem ah_rr_pos {r : Nat} (h : r ≠ 0) : ah_rr r = .ref (r - 1) := by
  cases r with
  | zero => exact absurd rfl h
  | succ n => rfl
/-- values as the rows below hold them: .ref 0 is null, .double k is the k-th String constant, .null is 'not set' -/
def ah_v (sa : Nat → Nat) (v : Value) : Value := match v with
  | .ref r => ah_rr r
  | .double k => .ref (sa k.toNat)
  | v => v
def ah_cat (v : Value) : Nat := match v with
  | .long _ => 2
  | _ => 1
def ah_ok (v : Value) : Bool := match v with
  | .null => false
  | .float _ => false
  | _ => true
theorem ah_v_cat (sa : Nat → Nat) {v : Value} : (ah_v sa v).category = ah_cat v := by
  cases v with
  | ref r => cases r <;> rfl
  | _ => rfl
def zz_ty (ci : Nat) : Nat → FieldType := match ci with
  | 0 => tyX0
  | 1 => tyX1
  | 2 => tyX2
  | 3 => tyX3
  | 4 => tyX4
  | 5 => tyX5
  | 6 => tyX6
  | 7 => tyX7
  | 8 => tyX10
  | 9 => tyX11
  | 10 => tyX12
  | _ => tyX13
abbrev zz_cl : List vw_C := [(RX0, TX0, 18), (RX1, TX1, 1), (RX2, TX2, 8), (RX3, TX3, 7), (RX4, TX4, 2), (RX5, TX5, 16), (RX6, TX6, 37), (RX7, TX7, 8), (RX10, TX10, 3), (RX11, TX11, 6), (RX12, TX12, 3), (RX13, TX13, 9)]
def zz_n (ci : Nat) : Nat := match ci with
  | 0 => 18
  | 1 => 1
  | 2 => 8
  | 3 => 7
  | 4 => 2
  | 5 => 16
  | 6 => 37
  | 7 => 8
  | 8 => 3
  | 9 => 6
  | 10 => 3
  | _ => 9

def ah_fv (h : AH) (ty : FieldType) (r k : Nat) : Value := match ty with
  | .long => .long (ah_L h r k)
  | .object _ => ah_rr (ah_R h r k)
  | .array _ => ah_rr (ah_R h r k)
  | _ => .int (ah_I h r k)
def ah_arr (h : AH) (t r : Nat) : (Nat → Int32) ⊕ (Nat → Int64) ⊕ (Nat → UInt32) ⊕ (Nat → UInt64) ⊕ (Nat → Option Nat) :=
  if t = 65 then .inr (.inl (ah_L h r)) else if t < 68 then .inl (ah_I h r) else .inr (.inr (.inr (.inr (fun k => ah_ro (ah_R h r k)))))
def ah_fs (h : AH) (ci r : Nat) : List Value := (List.range (zz_n ci)).map (fun k => ah_fv h (zz_ty ci k) r k)
def ah_cell (D : va_G) (h : AH) (r : Nat) : va_E := if 64 ≤ ah_T h r then .inl (D.1 (ah_T h r), ah_N h r, ah_arr h (ah_T h r) r) else .inr (ah_T h r - 1, ah_fs h (ah_T h r - 1) r)
def ah_ws (D : va_G) (h : AH) : va_W := (ah_D h).map (fun r => (r - 1, ah_cell D h r))
def zz_A (base : Nat) : Nat → Prop := fun q => base ≤ q
def zz_Rep (D : va_G) (base : Nat) (h : AH) (H : Heap) : Prop := va_P D zz_cl (ah_ws D h) H ∧ va_D (zz_A base) (ah_ws D h) ∧ (∀ r, ah_T h r ≠ 0 ↔ r ∈ ah_D h) ∧ 0 ∉ ah_D h
def zz_tys (D : va_G) : List (ClassId × FieldType) := [(D.1 64, .int), (D.1 65, .long), (D.1 66, .byte), (D.1 67, .short), (D.1 68, .object "IslandCall$Tray"), (D.1 69, .object "IslandCall$House"), (D.1 70, .object "IslandCall$Step")]
theorem ah_idx {D : va_G} {h : AH} {r : Nat} (hr : r ∈ ah_D h) : ∃ q : Nat, (ah_D h)[q]? = some r ∧ (ah_ws D h)[q]? = some (r - 1, ah_cell D h r) := by
  obtain ⟨q, hq⟩ := List.getElem?_of_mem hr
  exact ⟨q, hq, by unfold ah_ws; rw [List.getElem?_map, hq]; rfl⟩
theorem zz_Rep.ne {D : va_G} {base : Nat} {h : AH} {H : Heap} (Z : zz_Rep D base h H) {r : Nat} (hr : ah_T h r ≠ 0) : r ≠ 0 := by
  intro e
  rw [e] at hr
  exact Z.2.2.2 ((Z.2.2.1 0).mp hr)
theorem zz_Rep.at {D : va_G} {base : Nat} {h : AH} {H : Heap} (Z : zz_Rep D base h H) {r : Nat} (hr : ah_T h r ≠ 0) : ∃ q : Nat, (ah_D h)[q]? = some r ∧ (ah_ws D h)[q]? = some (r - 1, ah_cell D h r) := ah_idx ((Z.2.2.1 r).mp hr)
/-- a cell is changed: the picture as a list -/
theorem ah_ws_set {D : va_G} {base : Nat} {h h' : AH} {H : Heap} (Z : zz_Rep D base h H) {r q : Nat} (hq : (ah_D h)[q]? = some r) (hd : ah_D h' = ah_D h) (hc : ∀ x, x ≠ r → ah_cell D h' x = ah_cell D h x) : (ah_ws D h).set q (r - 1, ah_cell D h' r) = ah_ws D h' := by
  have hql : q < (ah_ws D h).length := by
    unfold ah_ws
    rw [List.length_map]
    exact (List.getElem?_eq_some_iff.mp hq).1
  apply List.ext_getElem?
  intro i
  by_cases hi : i = q
  · subst hi
    rw [List.getElem?_set_self hql]
    unfold ah_ws
    rw [hd, List.getElem?_map, hq]
    rfl
  · rw [List.getElem?_set_ne (Ne.symm hi)]
    unfold ah_ws
    rw [hd, List.getElem?_map, List.getElem?_map]
    cases hx : (ah_D h)[i]? with
    | none => rfl
    | some x =>
      have hxr : x ≠ r := by
        intro e
        subst e
        refine hi (Z.2.1.1 i q (x - 1, ah_cell D h x) (x - 1, ah_cell D h x) ?_ ?_ rfl)
        · unfold ah_ws
          rw [List.getElem?_map, hx]
          rfl
        · unfold ah_ws
          rw [List.getElem?_map, hq]
          rfl
      show some (x - 1, ah_cell D h x) = some (x - 1, ah_cell D h' x)
      rw [hc x hxr]
theorem zz_Rep.set {D : va_G} {base : Nat} {h h' : AH} {H H1 : Heap} (Z : zz_Rep D base h H) {r q : Nat} (hq : (ah_D h)[q]? = some r) (hd : ah_D h' = ah_D h) (ht : ah_T h' = ah_T h) (hc : ∀ x, x ≠ r → ah_cell D h' x = ah_cell D h x)
    (hP : va_P D zz_cl ((ah_ws D h).set q (r - 1, ah_cell D h' r)) H1) (hD : va_D (zz_A base) ((ah_ws D h).set q (r - 1, ah_cell D h' r))) : zz_Rep D base h' H1 := by
  rw [ah_ws_set Z hq hd hc] at hP hD
  exact ⟨hP, hD, by rw [ht, hd]; exact Z.2.2.1, by rw [hd]; exact Z.2.2.2⟩
/-- a cell is made -/
theorem zz_Rep.push {D : va_G} {base : Nat} {h : AH} {H H1 : Heap} (Z : zz_Rep D base h H) {q t n : Nat} {e : va_E} (ht : t ≠ 0) (he : e = ah_cell D (ah_new h (q + 1) t n) (q + 1))
    (hP : va_P D zz_cl (ah_ws D h ++ [(q, e)]) H1) (hD : va_D (zz_A base) (ah_ws D h ++ [(q, e)])) : ah_T h (q + 1) = 0 ∧ zz_Rep D base (ah_new h (q + 1) t n) H1 := by
  have hf : q + 1 ∉ ah_D h := by
    intro hm
    obtain ⟨i, -, hi⟩ := ah_idx (D := D) hm
    have hl : i < (ah_ws D h).length := (List.getElem?_eq_some_iff.mp hi).1
    have h1 : (ah_ws D h ++ [(q, e)])[i]? = some (q + 1 - 1, ah_cell D h (q + 1)) := by rw [List.getElem?_append_left hl]; exact hi
    have h2 : (ah_ws D h ++ [(q, e)])[(ah_ws D h).length]? = some (q, e) := by simp
    have := hD.1 _ _ _ _ h1 h2 rfl
    omega
  have h0 : ah_T h (q + 1) = 0 := by
    rcases Nat.eq_zero_or_pos (ah_T h (q + 1)) with z | z
    · exact z
    · exact absurd ((Z.2.2.1 (q + 1)).mp (by omega)) hf
  have hw : ah_ws D h ++ [(q, e)] = ah_ws D (ah_new h (q + 1) t n) := by
    unfold ah_ws
    show _ = (ah_D h ++ [q + 1]).map _
    rw [List.map_append, he]
    congr 1
    apply List.map_congr_left
    intro x hx
    have hxq : x ≠ q + 1 := fun e => hf (e ▸ hx)
    have c1 : ah_cell D (ah_new h (q + 1) t n) x = ah_cell D h x := by
      have e1 : ah_T (ah_new h (q + 1) t n) x = ah_T h x := if_neg hxq
      have e2 : ah_N (ah_new h (q + 1) t n) x = ah_N h x := if_neg hxq
      have e3 : ah_I (ah_new h (q + 1) t n) x = ah_I h x := funext fun j => if_neg hxq
      have e4 : ah_L (ah_new h (q + 1) t n) x = ah_L h x := funext fun j => if_neg hxq
      have e5 : ah_R (ah_new h (q + 1) t n) x = ah_R h x := funext fun j => if_neg hxq
      simp only [ah_cell, ah_arr, ah_fs, ah_fv, e1, e2, e3, e4, e5]
    rw [c1]
  rw [hw] at hP hD
  refine ⟨h0, hP, hD, fun x => ?_, ?_⟩
  · show (if x = q + 1 then t else ah_T h x) ≠ 0 ↔ x ∈ ah_D h ++ [q + 1]
    by_cases hx : x = q + 1
    · simp [hx, ht]
    · simp only [if_neg hx, List.mem_append, List.mem_singleton, hx, or_false]
      exact Z.2.2.1 x
  · show 0 ∉ ah_D h ++ [q + 1]
    simp only [List.mem_append, List.mem_singleton]
    rintro (z | z)
    · exact Z.2.2.2 z
    · omega
theorem ah_cell_other {D : va_G} {h h' : AH} {x : Nat} (e1 : ah_T h' x = ah_T h x) (e2 : ah_N h' x = ah_N h x) (e3 : ah_I h' x = ah_I h x) (e4 : ah_L h' x = ah_L h x) (e5 : ah_R h' x = ah_R h x) : ah_cell D h' x = ah_cell D h x := by
  simp only [ah_cell, ah_arr, ah_fs, ah_fv, e1, e2, e3, e4, e5]
theorem ah_up_ne {α : Type} {f : Nat → Nat → α} {r k x : Nat} {v : α} (h : x ≠ r) : ah_up f r k v x = f x := funext fun j => if_neg fun c => h c.1
theorem ah_row_ne {α : Type} {f : Nat → Nat → α} {r x : Nat} {g : Nat → α} (h : x ≠ r) : ah_row f r g x = f x := funext fun j => if_neg h
theorem ah_cell_sI {D : va_G} {h : AH} {r k : Nat} {v : Int32} : ∀ x, x ≠ r → ah_cell D (ah_sI h r k v) x = ah_cell D h x := fun _ hx => ah_cell_other rfl rfl (ah_up_ne hx) rfl rfl
theorem ah_cell_sL {D : va_G} {h : AH} {r k : Nat} {v : Int64} : ∀ x, x ≠ r → ah_cell D (ah_sL h r k v) x = ah_cell D h x := fun _ hx => ah_cell_other rfl rfl rfl (ah_up_ne hx) rfl
theorem ah_cell_sR {D : va_G} {h : AH} {r k : Nat} {v : Nat} : ∀ x, x ≠ r → ah_cell D (ah_sR h r k v) x = ah_cell D h x := fun _ hx => ah_cell_other rfl rfl rfl rfl (ah_up_ne hx)
theorem ah_cell_rI {D : va_G} {h : AH} {r : Nat} {g : Nat → Int32} : ∀ x, x ≠ r → ah_cell D (ah_rI h r g) x = ah_cell D h x := fun _ hx => ah_cell_other rfl rfl (ah_row_ne hx) rfl rfl
theorem ah_cell_rL {D : va_G} {h : AH} {r : Nat} {g : Nat → Int64} : ∀ x, x ≠ r → ah_cell D (ah_rL h r g) x = ah_cell D h x := fun _ hx => ah_cell_other rfl rfl rfl (ah_row_ne hx) rfl
theorem ah_cell_rR {D : va_G} {h : AH} {r : Nat} {g : Nat → Nat} : ∀ x, x ≠ r → ah_cell D (ah_rR h r g) x = ah_cell D h x := fun _ hx => ah_cell_other rfl rfl rfl rfl (ah_row_ne hx)
/-- an object's cell, by its tag -/
theorem ah_cell_o {D : va_G} {h : AH} {r ci : Nat} (ht : ah_T h r = ci + 1) (hci : ci < 63) : ah_cell D h r = .inr (ci, ah_fs h ci r) := by
  unfold ah_cell
  rw [ht, if_neg (by omega)]
  rfl
theorem ah_cell_a {D : va_G} {h : AH} {r t : Nat} (ht : ah_T h r = t) (h64 : 64 ≤ t) : ah_cell D h r = .inl (D.1 t, ah_N h r, ah_arr h t r) := by
  unfold ah_cell
  rw [ht, if_pos h64]
theorem ah_fs_at {h : AH} {ci r k : Nat} (hk : k < zz_n ci) : (ah_fs h ci r)[k]? = some (ah_fv h (zz_ty ci k) r k) := by
  unfold ah_fs
  rw [List.getElem?_map, List.getElem?_range hk]
  rfl
theorem ah_fs_len {h : AH} {ci r : Nat} : (ah_fs h ci r).length = zz_n ci := by simp [ah_fs]
/-- a field is changed -/
theorem ah_fs_set {h h' : AH} {ci r k : Nat} {v : Value} (hv : ah_fv h' (zz_ty ci k) r k = v) (ho : ∀ j, j ≠ k → ah_fv h' (zz_ty ci j) r j = ah_fv h (zz_ty ci j) r j) : (ah_fs h ci r).set k v = ah_fs h' ci r := by
  apply List.ext_getElem?
  intro i
  by_cases hi : i = k
  · subst hi
    by_cases hn : i < zz_n ci
    · rw [List.getElem?_set_self (by rw [ah_fs_len]; exact hn), ah_fs_at hn, hv]
    · rw [List.getElem?_eq_none (by rw [List.length_set, ah_fs_len]; omega), List.getElem?_eq_none (by rw [ah_fs_len]; omega)]
  · rw [List.getElem?_set_ne (Ne.symm hi)]
    by_cases hn : i < zz_n ci
    · rw [ah_fs_at hn, ah_fs_at hn, ho i hi]
    · rw [List.getElem?_eq_none (by rw [ah_fs_len]; omega), List.getElem?_eq_none (by rw [ah_fs_len]; omega)]
