set_option maxRecDepth 100000
/-! FIELDS -/
def ix_getI (t k : Nat) (N : KT) (lo st : List Value) (h : AH) (c z : Nat) : Prop := match st with
  | .ref r :: st => ah_T h r = t ∧ N lo (.int (ah_I h r k) :: st) h c z
  | _ => False
def ix_getL (t k : Nat) (N : KT) (lo st : List Value) (h : AH) (c z : Nat) : Prop := match st with
  | .ref r :: st => ah_T h r = t ∧ N lo (.long (ah_L h r k) :: st) h c z
  | _ => False
def ix_getR (t k : Nat) (N : KT) (lo st : List Value) (h : AH) (c z : Nat) : Prop := match st with
  | .ref r :: st => ah_T h r = t ∧ N lo (.ref (ah_R h r k) :: st) h c z
  | _ => False
/-- either of two kinds of object -/
def ix_or2 (A B N : KT) (lo st : List Value) (h : AH) (c z : Nat) : Prop := A lo st h c z ∨ B lo st h c z
/-- the link of a field, plain or between mates -/
def zz_fl (own : String) (idx : Nat) (F : String × String × String × Bool) : Prop := Cond.fieldLink own idx F.1 F.2.1 F.2.2.1 ∈ lw_all ∨ ∃ g, Cond.fieldLinkNest own idx F.1 F.2.1 F.2.2.1 g ∈ lw_tbl
/-- what is known of the ci-th kind of object -/
def zz_CL (ci : Nat) (C : String) (T : u_T) (N : Nat) : Prop := zz_cl[ci]? = some (C, T, N) ∧ (∀ w ∈ u_ws C T N, w ∈ lw_all) ∧ zz_n ci = N ∧ ci < 63 ∧ (∀ k, k < N → parseFieldDescriptor (T k).2.2.1 = some (zz_ty ci k)) ∧ (∀ a, a < N → ∀ b, b < N → a ≠ b → (T a).2.1 ≠ (T b).2.1)
theorem zz_get {Y : YY} {f : Nat} {Q : OO → AH → Prop} {pc : Nat} {lo st : List Value} {h : AH} {c z r ci k idx N : Nat} {C : String} {T : u_T} (hC : zz_CL ci C T N) (hk : k < N) (hl : zz_fl Y.1.cls idx (T k)) (d : decode Y.2.1 pc = .ok (.getfield idx, 3)) {v : Value} (hv : ∀ sa, ah_fv h (zz_ty ci k) r k = ah_v sa v) (ht : ah_T h r = ci + 1) (n : zz_G Y f Q (pc + 3) lo (v :: st) h c z) : zz_G Y f Q pc lo (.ref r :: st) h c z := by
  intro D sa base p l e R s m args below meth cd H locs cells slots ls A
  have kk := n D sa base p l e R s m args below meth cd H locs cells slots ls A
  obtain ⟨F, R0, K, hb, Z, S, L, h1, h2⟩ := A
  obtain ⟨fx, fb, fm, fo, fw, fr, fl, fn, ft, fe⟩ := F
  obtain ⟨hc, hin, hN, hci, -, -⟩ := hC
  have h0 : ah_T h r ≠ 0 := by rw [ht]; omega
  have hne := Z.ne h0
  obtain ⟨q, hq, hw⟩ := Z.at h0
  rw [ah_cell_o ht hci] at hw
  have hfs : (ah_fs h ci r)[k]? = some (ah_v sa v) := by rw [ah_fs_at (by omega), hv]
  show W p l e R s m args below meth cd H locs cells slots _ (F0 m pc ls (ah_rr r :: st.map (ah_v sa)))
  rw [ah_rr_pos hne]
  rcases hl with hl | ⟨g, hl⟩
  · exact va_get fx fb fw hin fo K.1 Z.1 q hw hc k hk (fw _ hl) (fun _ h => h) hfs d kk
  · exact va_getN fx fb fw hin fo K.1 Z.1 q hw hc k hk (va_Nw.use rfl (K.2.1 _ _ _ _ _ _ hl)) (fun _ h => h) hfs d kk
theorem sx_getI {Y : YY} {f : Nat} {Q : OO → AH → Prop} {pc : Nat} {N : KT} {ci k idx nn t : Nat} {C : String} {T : u_T} (hC : zz_CL ci C T nn) (ht : ci + 1 = t) (hk : k < nn) (hl : zz_fl Y.1.cls idx (T k)) (hty : zz_ty ci k = .int ∨ zz_ty ci k = .boolean) (d : decode Y.2.1 pc = .ok (.getfield idx, 3)) (n : zz_L Y f Q (pc + 3) N) : zz_L Y f Q pc (ix_getI t k N) := by
  intro lo st h c z hi
  unfold ix_getI at hi
  split at hi
  · exact zz_get hC hk hl d (fun sa => by rcases hty with e | e <;> rw [e] <;> rfl) (hi.1.trans ht.symm) (n _ _ _ _ _ hi.2)
  · exact hi.elim
theorem sx_getL {Y : YY} {f : Nat} {Q : OO → AH → Prop} {pc : Nat} {N : KT} {ci k idx nn t : Nat} {C : String} {T : u_T} (hC : zz_CL ci C T nn) (ht : ci + 1 = t) (hk : k < nn) (hl : zz_fl Y.1.cls idx (T k)) (hty : zz_ty ci k = .long) (d : decode Y.2.1 pc = .ok (.getfield idx, 3)) (n : zz_L Y f Q (pc + 3) N) : zz_L Y f Q pc (ix_getL t k N) := by
  intro lo st h c z hi
  unfold ix_getL at hi
  split at hi
  · exact zz_get hC hk hl d (fun sa => by rw [hty]; rfl) (hi.1.trans ht.symm) (n _ _ _ _ _ hi.2)
  · exact hi.elim
theorem sx_getR {Y : YY} {f : Nat} {Q : OO → AH → Prop} {pc : Nat} {N : KT} {ci k idx nn t : Nat} {C : String} {T : u_T} (hC : zz_CL ci C T nn) (ht : ci + 1 = t) (hk : k < nn) (hl : zz_fl Y.1.cls idx (T k)) (hty : refKind (zz_ty ci k) = true) (d : decode Y.2.1 pc = .ok (.getfield idx, 3)) (n : zz_L Y f Q (pc + 3) N) : zz_L Y f Q pc (ix_getR t k N) := by
  intro lo st h c z hi
  unfold ix_getR at hi
  split at hi
  · refine zz_get hC hk hl d (fun sa => ?_) (hi.1.trans ht.symm) (n _ _ _ _ _ hi.2)
    cases e : zz_ty ci k with
    | object _ => rfl
    | array _ => rfl
    | _ => rw [e] at hty; cases hty
  · exact hi.elim
theorem sx_or2 {Y : YY} {f : Nat} {Q : OO → AH → Prop} {pc : Nat} {A B N : KT} (a : zz_L Y f Q pc A) (b : zz_L Y f Q pc B) : zz_L Y f Q pc (ix_or2 A B N) := fun _ _ _ _ _ hi => hi.elim (a _ _ _ _ _) (b _ _ _ _ _)
/-- a final field is put by its own maker alone -/
def zz_fin (Y : YY) (F : String × String × String × Bool) : Prop := F.2.2.2 = false ∨ (F.2.2.2 = true ∧ Y.1.name = "<init>" ∧ F.1 = Y.1.cls)
theorem zz_put {Y : YY} {f : Nat} {Q : OO → AH → Prop} {pc : Nat} {lo st : List Value} {h h' : AH} {c z r ci k idx N : Nat} {C : String} {T : u_T} (hC : zz_CL ci C T N) (hk : k < N) (hl : zz_fl Y.1.cls idx (T k)) (hf : zz_fin Y (T k) ∧ ((T k).2.2.2 = true → Cond.fieldLink Y.1.cls idx (T k).1 (T k).2.1 (T k).2.2.1 ∈ lw_all)) (d : decode Y.2.1 pc = .ok (.putfield idx, 3)) {v : Value}
    (hn : ∀ sa, narrow (zz_ty ci k) (ah_v sa v) = ah_v sa v) (hfit : ∀ sa, fits (zz_ty ci k) (ah_v sa v) = true) (hv : ∀ sa, ah_fv h' (zz_ty ci k) r k = ah_v sa v) (ho : ∀ j, j ≠ k → ah_fv h' (zz_ty ci j) r j = ah_fv h (zz_ty ci j) r j) (hD : ah_D h' = ah_D h) (hT : ah_T h' = ah_T h) (hx : ∀ (D : va_G) x, x ≠ r → ah_cell D h' x = ah_cell D h x) (ht : ah_T h r = ci + 1) (n : zz_G Y f Q (pc + 3) lo st h' c z) : zz_G Y f Q pc lo (v :: .ref r :: st) h c z := by
  intro D sa base p l e R s m args below meth cd H locs cells slots ls A
  obtain ⟨F, R0, K, hb, Z, S, L, h1, h2⟩ := A
  have F' := F
  obtain ⟨fx, fb, fm, fo, fw, fr, fl, fn, ft, fe⟩ := F
  obtain ⟨hc, hin, hN, hci, hty, hnm⟩ := hC
  have h0 : ah_T h r ≠ 0 := by rw [ht]; omega
  have hne := Z.ne h0
  obtain ⟨q, hq, hw⟩ := Z.at h0
  rw [ah_cell_o ht hci] at hw
  have ec : (r - 1, Sum.inr (ci, (ah_fs h ci r).set k (ah_v sa v))) = (r - 1, ah_cell D h' r) := by
    rw [ah_cell_o (by rw [hT]; exact ht) hci, ah_fs_set (hv sa) ho]
  show W p l e R s m args below meth cd H locs cells slots _ (F0 m pc ls (ah_v sa v :: ah_rr r :: st.map (ah_v sa)))
  rw [ah_rr_pos hne]
  have kk : ∀ (H1 : Heap) (locs1 : List Loc), va_P D zz_cl ((ah_ws D h).set q (r - 1, .inr (ci, (ah_fs h ci r).set k (ah_v sa v)))) H1 → va_D (zz_A base) ((ah_ws D h).set q (r - 1, .inr (ci, (ah_fs h ci r).set k (ah_v sa v)))) → va_S (zz_A base) s.heap H1 locs1 → W p l e R s m args below meth cd H1 locs1 cells slots (vx_MQ below (zz_Qc D sa base Q) (zz_XC D base Q) args s R.cells R.slots (zz_A base)) (F0 m (pc + 3) ls (st.map (ah_v sa))) := by
    intro H1 locs1 P1 D1 S1
    rw [ec] at P1 D1
    exact n D sa base p l e R s m args below meth cd H1 locs1 cells slots ls ⟨F', R0, K, hb, Z.set hq hD hT (hx D) P1 D1, S1, L, h1, h2⟩
  rcases hf with ⟨hf | ⟨hf, hi, hdl⟩, hlf⟩
  · rcases hl with hl | ⟨g, hl⟩
    · exact va_put fx fb fw hin (zz_ty ci) hty hnm fo K.1 Z.1 Z.2.1 S q hw hc k hk (fw _ hl) (fun _ h => h) hf (hty k hk) (hn sa) (hfit sa) (by rw [ah_fs_len]; omega) d kk
    · exact va_putN fx fb fw hin (zz_ty ci) hty hnm fo K.1 Z.1 Z.2.1 S q hw hc k hk (va_Nw.use rfl (K.2.1 _ _ _ _ _ _ hl)) (fun _ h => h) hf (hty k hk) (hn sa) (hfit sa) (by rw [ah_fs_len]; omega) d kk
  · exact va_putF fx fb fw hin (zz_ty ci) hty hnm fo K.1 Z.1 Z.2.1 S q hw hc k hk (fw _ (hlf hf)) (fun _ h => h) hf (fn.trans hi) hdl (hty k hk) (hn sa) (hfit sa) (by rw [ah_fs_len]; omega) d kk
def ix_putI (t k : Nat) (N : KT) (lo st : List Value) (h : AH) (c z : Nat) : Prop := match st with
  | .int x :: .ref r :: st => ah_T h r = t ∧ N lo st (ah_sI h r k x) c z
  | _ => False
def ix_putZ (t k : Nat) (N : KT) (lo st : List Value) (h : AH) (c z : Nat) : Prop := match st with
  | .int x :: .ref r :: st => (x = 0 ∨ x = 1) ∧ ah_T h r = t ∧ N lo st (ah_sI h r k x) c z
  | _ => False
def ix_putL (t k : Nat) (N : KT) (lo st : List Value) (h : AH) (c z : Nat) : Prop := match st with
  | .long x :: .ref r :: st => ah_T h r = t ∧ N lo st (ah_sL h r k x) c z
  | _ => False
def ix_putR (t k : Nat) (N : KT) (lo st : List Value) (h : AH) (c z : Nat) : Prop := match st with
  | .ref x :: .ref r :: st => ah_T h r = t ∧ N lo st (ah_sR h r k x) c z
  | _ => False
theorem ah_fv_sI {h : AH} {r k j : Nat} {v : Int32} {ty : FieldType} (hj : j ≠ k) : ah_fv (ah_sI h r k v) ty r j = ah_fv h ty r j := by
  have e : ah_I (ah_sI h r k v) r j = ah_I h r j := if_neg fun q => hj q.2
  cases ty <;> first | rfl | (simp only [ah_fv, e])
theorem ah_fv_sL {h : AH} {r k j : Nat} {v : Int64} {ty : FieldType} (hj : j ≠ k) : ah_fv (ah_sL h r k v) ty r j = ah_fv h ty r j := by
  have e : ah_L (ah_sL h r k v) r j = ah_L h r j := if_neg fun q => hj q.2
  cases ty <;> first | rfl | (simp only [ah_fv, e])
theorem ah_fv_sR {h : AH} {r k j : Nat} {v : Nat} {ty : FieldType} (hj : j ≠ k) : ah_fv (ah_sR h r k v) ty r j = ah_fv h ty r j := by
  have e : ah_R (ah_sR h r k v) r j = ah_R h r j := if_neg fun q => hj q.2
  cases ty <;> first | rfl | (simp only [ah_fv, e])
theorem sx_putI {Y : YY} {f : Nat} {Q : OO → AH → Prop} {pc : Nat} {N : KT} {ci k idx nn t : Nat} {C : String} {T : u_T} (hC : zz_CL ci C T nn) (ht : ci + 1 = t) (hk : k < nn) (hl : zz_fl Y.1.cls idx (T k)) (hf : zz_fin Y (T k) ∧ ((T k).2.2.2 = true → Cond.fieldLink Y.1.cls idx (T k).1 (T k).2.1 (T k).2.2.1 ∈ lw_all)) (hty : zz_ty ci k = .int) (d : decode Y.2.1 pc = .ok (.putfield idx, 3)) (n : zz_L Y f Q (pc + 3) N) : zz_L Y f Q pc (ix_putI t k N) := by
  intro lo st h c z hi
  unfold ix_putI at hi
  split at hi
  · next x r st =>
    refine zz_put hC hk hl hf d (fun sa => by rw [hty]; rfl) (fun sa => by rw [hty]; rfl) (fun sa => ?_) (fun j hj => ah_fv_sI hj) rfl rfl (fun _ => ah_cell_sI) (hi.1.trans ht.symm) (n _ _ _ _ _ hi.2)
    rw [hty]
    show Value.int (if r = r ∧ k = k then x else _) = Value.int x
    rw [if_pos ⟨rfl, rfl⟩]
  · exact hi.elim
theorem sx_putZ {Y : YY} {f : Nat} {Q : OO → AH → Prop} {pc : Nat} {N : KT} {ci k idx nn t : Nat} {C : String} {T : u_T} (hC : zz_CL ci C T nn) (ht : ci + 1 = t) (hk : k < nn) (hl : zz_fl Y.1.cls idx (T k)) (hf : zz_fin Y (T k) ∧ ((T k).2.2.2 = true → Cond.fieldLink Y.1.cls idx (T k).1 (T k).2.1 (T k).2.2.1 ∈ lw_all)) (hty : zz_ty ci k = .boolean) (d : decode Y.2.1 pc = .ok (.putfield idx, 3)) (n : zz_L Y f Q (pc + 3) N) : zz_L Y f Q pc (ix_putZ t k N) := by
  intro lo st h c z hi
  unfold ix_putZ at hi
  split at hi
  · next x r st =>
    refine zz_put hC hk hl hf d (fun sa => by rw [hty]; rcases hi.1 with rfl | rfl <;> rfl) (fun sa => by rw [hty]; rcases hi.1 with rfl | rfl <;> rfl) (fun sa => ?_) (fun j hj => ah_fv_sI hj) rfl rfl (fun _ => ah_cell_sI) (hi.2.1.trans ht.symm) (n _ _ _ _ _ hi.2.2)
    rw [hty]
    show Value.int (if r = r ∧ k = k then x else _) = Value.int x
    rw [if_pos ⟨rfl, rfl⟩]
  · exact hi.elim
theorem sx_putL {Y : YY} {f : Nat} {Q : OO → AH → Prop} {pc : Nat} {N : KT} {ci k idx nn t : Nat} {C : String} {T : u_T} (hC : zz_CL ci C T nn) (ht : ci + 1 = t) (hk : k < nn) (hl : zz_fl Y.1.cls idx (T k)) (hf : zz_fin Y (T k) ∧ ((T k).2.2.2 = true → Cond.fieldLink Y.1.cls idx (T k).1 (T k).2.1 (T k).2.2.1 ∈ lw_all)) (hty : zz_ty ci k = .long) (d : decode Y.2.1 pc = .ok (.putfield idx, 3)) (n : zz_L Y f Q (pc + 3) N) : zz_L Y f Q pc (ix_putL t k N) := by
  intro lo st h c z hi
  unfold ix_putL at hi
  split at hi
  · next x r st =>
    refine zz_put hC hk hl hf d (fun sa => by rw [hty]; rfl) (fun sa => by rw [hty]; rfl) (fun sa => ?_) (fun j hj => ah_fv_sL hj) rfl rfl (fun _ => ah_cell_sL) (hi.1.trans ht.symm) (n _ _ _ _ _ hi.2)
    rw [hty]
    show Value.long (if r = r ∧ k = k then x else _) = Value.long x
    rw [if_pos ⟨rfl, rfl⟩]
  · exact hi.elim
theorem sx_putR {Y : YY} {f : Nat} {Q : OO → AH → Prop} {pc : Nat} {N : KT} {ci k idx nn t : Nat} {C : String} {T : u_T} (hC : zz_CL ci C T nn) (ht : ci + 1 = t) (hk : k < nn) (hl : zz_fl Y.1.cls idx (T k)) (hf : zz_fin Y (T k) ∧ ((T k).2.2.2 = true → Cond.fieldLink Y.1.cls idx (T k).1 (T k).2.1 (T k).2.2.1 ∈ lw_all)) (hty : refKind (zz_ty ci k) = true) (d : decode Y.2.1 pc = .ok (.putfield idx, 3)) (n : zz_L Y f Q (pc + 3) N) : zz_L Y f Q pc (ix_putR t k N) := by
  intro lo st h c z hi
  unfold ix_putR at hi
  split at hi
  · next x r st =>
    have key : ∀ sa, narrow (zz_ty ci k) (ah_rr x) = ah_rr x ∧ fits (zz_ty ci k) (ah_rr x) = true ∧ ah_fv (ah_sR h r k x) (zz_ty ci k) r k = ah_v sa (.ref x) := by
      intro sa
      have e : ah_R (ah_sR h r k x) r k = x := if_pos ⟨rfl, rfl⟩
      cases e2 : zz_ty ci k with
      | object _ => exact ⟨by cases x <;> rfl, by cases x <;> rfl, by show ah_rr (ah_R _ _ _) = ah_rr x; rw [e]⟩
      | array _ => exact ⟨by cases x <;> rfl, by cases x <;> rfl, by show ah_rr (ah_R _ _ _) = ah_rr x; rw [e]⟩
      | _ => rw [e2] at hty; cases hty
    exact zz_put hC hk hl hf d (fun sa => (key sa).1) (fun sa => (key sa).2.1) (fun sa => (key sa).2.2) (fun j hj => ah_fv_sR hj) rfl rfl (fun _ => ah_cell_sR) (hi.1.trans ht.symm) (n _ _ _ _ _ hi.2)
  · exact hi.elim
/-! ARRAYS -/
theorem zz_arr {D : va_G} {base : Nat} {h : AH} {H : Heap} (Z : zz_Rep D base h H) {r t : Nat} (ht : ah_T h r = t) (h64 : 64 ≤ t) : r ≠ 0 ∧ ∃ q : Nat, (ah_D h)[q]? = some r ∧ (ah_ws D h)[q]? = some (r - 1, .inl (D.1 t, ah_N h r, ah_arr h t r)) := by
  have h0 : ah_T h r ≠ 0 := by rw [ht]; omega
  obtain ⟨q, hq, hw⟩ := Z.at h0
  exact ⟨Z.ne h0, q, hq, by rw [← ah_cell_a ht h64]; exact hw⟩
theorem CL0 : zz_CL 0 RX0 TX0 18 := ⟨rfl, in_X0, rfl, by decide, tyX0_ok, nmX0⟩
theorem CL1 : zz_CL 1 RX1 TX1 1 := ⟨rfl, in_X1, rfl, by decide, tyX1_ok, nmX1⟩
theorem CL2 : zz_CL 2 RX2 TX2 8 := ⟨rfl, in_X2, rfl, by decide, tyX2_ok, nmX2⟩
theorem CL3 : zz_CL 3 RX3 TX3 7 := ⟨rfl, in_X3, rfl, by decide, tyX3_ok, nmX3⟩
theorem CL4 : zz_CL 4 RX4 TX4 2 := ⟨rfl, in_X4, rfl, by decide, tyX4_ok, nmX4⟩
theorem CL5 : zz_CL 5 RX5 TX5 16 := ⟨rfl, in_X5, rfl, by decide, tyX5_ok, nmX5⟩
theorem CL6 : zz_CL 6 RX6 TX6 37 := ⟨rfl, in_X6, rfl, by decide, tyX6_ok, nmX6⟩
theorem CL7 : zz_CL 7 RX7 TX7 8 := ⟨rfl, in_X7, rfl, by decide, tyX7_ok, nmX7⟩
theorem CL10 : zz_CL 8 RX10 TX10 3 := ⟨rfl, in_X10, rfl, by decide, tyX10_ok, nmX10⟩
theorem CL11 : zz_CL 9 RX11 TX11 6 := ⟨rfl, in_X11, rfl, by decide, tyX11_ok, nmX11⟩
theorem CL12 : zz_CL 10 RX12 TX12 3 := ⟨rfl, in_X12, rfl, by decide, tyX12_ok, nmX12⟩
theorem CL13 : zz_CL 11 RX13 TX13 9 := ⟨rfl, in_X13, rfl, by decide, tyX13_ok, nmX13⟩
