set_option maxRecDepth 100000
def ix_iald (N : KT) (lo st : List Value) (h : AH) (c z : Nat) : Prop := match st with
  | .int i :: .ref r :: st => ah_T h r = 64 ∧ vp_in i (ah_N h r) ∧ N lo (.int (ah_I h r i.toNatClampNeg) :: st) h c z
  | _ => False
theorem sx_iald {Y : YY} {f : Nat} {Q : OO → AH → Prop} {pc : Nat} {N : KT} (d : decode Y.2.1 pc = .ok (.iaload, 1)) (n : zz_L Y f Q (pc + 1) N) : zz_L Y f Q pc (ix_iald N) := by
  intro lo st h c z hi
  unfold ix_iald at hi
  split at hi
  · next i r st =>
    intro D sa base p l e R s m args below meth cd H locs cells slots ls A
    have kk := n _ _ _ _ _ hi.2.2 D sa base p l e R s m args below meth cd H locs cells slots ls A
    obtain ⟨F, R0, K, hb, Z, S, L, h1, h2⟩ := A
    obtain ⟨hne, q, hq, hw⟩ := zz_arr Z hi.1 (by omega)
    show W p l e R s m args below meth cd H locs cells slots _ (F0 m pc ls (.int i :: ah_rr r :: st.map (ah_v sa)))
    rw [ah_rr_pos hne]
    exact va_iald F.1 F.2.1 K.1 Z.1 q 0 hw rfl hi.2.1 d kk
  · exact hi.elim
def ix_lald (N : KT) (lo st : List Value) (h : AH) (c z : Nat) : Prop := match st with
  | .int i :: .ref r :: st => ah_T h r = 65 ∧ vp_in i (ah_N h r) ∧ N lo (.long (ah_L h r i.toNatClampNeg) :: st) h c z
  | _ => False
theorem sx_lald {Y : YY} {f : Nat} {Q : OO → AH → Prop} {pc : Nat} {N : KT} (d : decode Y.2.1 pc = .ok (.laload, 1)) (n : zz_L Y f Q (pc + 1) N) : zz_L Y f Q pc (ix_lald N) := by
  intro lo st h c z hi
  unfold ix_lald at hi
  split at hi
  · next i r st =>
    intro D sa base p l e R s m args below meth cd H locs cells slots ls A
    have kk := n _ _ _ _ _ hi.2.2 D sa base p l e R s m args below meth cd H locs cells slots ls A
    obtain ⟨F, R0, K, hb, Z, S, L, h1, h2⟩ := A
    obtain ⟨hne, q, hq, hw⟩ := zz_arr Z hi.1 (by omega)
    show W p l e R s m args below meth cd H locs cells slots _ (F0 m pc ls (.int i :: ah_rr r :: st.map (ah_v sa)))
    rw [ah_rr_pos hne]
    exact va_lald F.1 F.2.1 K.1 Z.1 q 1 hw rfl hi.2.1 d kk
  · exact hi.elim
def ix_bald (N : KT) (lo st : List Value) (h : AH) (c z : Nat) : Prop := match st with
  | .int i :: .ref r :: st => ah_T h r = 66 ∧ vp_in i (ah_N h r) ∧ N lo (.int (ah_I h r i.toNatClampNeg) :: st) h c z
  | _ => False
theorem sx_bald {Y : YY} {f : Nat} {Q : OO → AH → Prop} {pc : Nat} {N : KT} (d : decode Y.2.1 pc = .ok (.baload, 1)) (n : zz_L Y f Q (pc + 1) N) : zz_L Y f Q pc (ix_bald N) := by
  intro lo st h c z hi
  unfold ix_bald at hi
  split at hi
  · next i r st =>
    intro D sa base p l e R s m args below meth cd H locs cells slots ls A
    have kk := n _ _ _ _ _ hi.2.2 D sa base p l e R s m args below meth cd H locs cells slots ls A
    obtain ⟨F, R0, K, hb, Z, S, L, h1, h2⟩ := A
    obtain ⟨hne, q, hq, hw⟩ := zz_arr Z hi.1 (by omega)
    show W p l e R s m args below meth cd H locs cells slots _ (F0 m pc ls (.int i :: ah_rr r :: st.map (ah_v sa)))
    rw [ah_rr_pos hne]
    exact va_bald F.1 F.2.1 K.1 Z.1 q 2 hw rfl hi.2.1 d kk
  · exact hi.elim
def ix_sald (N : KT) (lo st : List Value) (h : AH) (c z : Nat) : Prop := match st with
  | .int i :: .ref r :: st => ah_T h r = 67 ∧ vp_in i (ah_N h r) ∧ N lo (.int (ah_I h r i.toNatClampNeg) :: st) h c z
  | _ => False
theorem sx_sald {Y : YY} {f : Nat} {Q : OO → AH → Prop} {pc : Nat} {N : KT} (d : decode Y.2.1 pc = .ok (.saload, 1)) (n : zz_L Y f Q (pc + 1) N) : zz_L Y f Q pc (ix_sald N) := by
  intro lo st h c z hi
  unfold ix_sald at hi
  split at hi
  · next i r st =>
    intro D sa base p l e R s m args below meth cd H locs cells slots ls A
    have kk := n _ _ _ _ _ hi.2.2 D sa base p l e R s m args below meth cd H locs cells slots ls A
    obtain ⟨F, R0, K, hb, Z, S, L, h1, h2⟩ := A
    obtain ⟨hne, q, hq, hw⟩ := zz_arr Z hi.1 (by omega)
    show W p l e R s m args below meth cd H locs cells slots _ (F0 m pc ls (.int i :: ah_rr r :: st.map (ah_v sa)))
    rw [ah_rr_pos hne]
    exact va_sald F.1 F.2.1 K.1 Z.1 q 3 hw rfl hi.2.1 d kk
  · exact hi.elim
def ix_aald68 (N : KT) (lo st : List Value) (h : AH) (c z : Nat) : Prop := match st with
  | .int i :: .ref r :: st => ah_T h r = 68 ∧ vp_in i (ah_N h r) ∧ N lo (.ref (ah_R h r i.toNatClampNeg) :: st) h c z
  | _ => False
theorem sx_aald68 {Y : YY} {f : Nat} {Q : OO → AH → Prop} {pc : Nat} {N : KT} (d : decode Y.2.1 pc = .ok (.aaload, 1)) (n : zz_L Y f Q (pc + 1) N) : zz_L Y f Q pc (ix_aald68 N) := by
  intro lo st h c z hi
  unfold ix_aald68 at hi
  split at hi
  · next i r st =>
    intro D sa base p l e R s m args below meth cd H locs cells slots ls A
    have kk := n _ _ _ _ _ hi.2.2 D sa base p l e R s m args below meth cd H locs cells slots ls A
    obtain ⟨F, R0, K, hb, Z, S, L, h1, h2⟩ := A
    obtain ⟨hne, q, hq, hw⟩ := zz_arr Z hi.1 (by omega)
    show W p l e R s m args below meth cd H locs cells slots _ (F0 m pc ls (.int i :: ah_rr r :: st.map (ah_v sa)))
    rw [ah_rr_pos hne]
    refine va_aldq F.1 F.2.1 K.1 Z.1 q 4 hw rfl hi.2.1 d ?_
    rw [ah_rf]
    exact kk
  · exact hi.elim
def ix_aald69 (N : KT) (lo st : List Value) (h : AH) (c z : Nat) : Prop := match st with
  | .int i :: .ref r :: st => ah_T h r = 69 ∧ vp_in i (ah_N h r) ∧ N lo (.ref (ah_R h r i.toNatClampNeg) :: st) h c z
  | _ => False
theorem sx_aald69 {Y : YY} {f : Nat} {Q : OO → AH → Prop} {pc : Nat} {N : KT} (d : decode Y.2.1 pc = .ok (.aaload, 1)) (n : zz_L Y f Q (pc + 1) N) : zz_L Y f Q pc (ix_aald69 N) := by
  intro lo st h c z hi
  unfold ix_aald69 at hi
  split at hi
  · next i r st =>
    intro D sa base p l e R s m args below meth cd H locs cells slots ls A
    have kk := n _ _ _ _ _ hi.2.2 D sa base p l e R s m args below meth cd H locs cells slots ls A
    obtain ⟨F, R0, K, hb, Z, S, L, h1, h2⟩ := A
    obtain ⟨hne, q, hq, hw⟩ := zz_arr Z hi.1 (by omega)
    show W p l e R s m args below meth cd H locs cells slots _ (F0 m pc ls (.int i :: ah_rr r :: st.map (ah_v sa)))
    rw [ah_rr_pos hne]
    refine va_aldq F.1 F.2.1 K.1 Z.1 q 5 hw rfl hi.2.1 d ?_
    rw [ah_rf]
    exact kk
  · exact hi.elim
def ix_aald70 (N : KT) (lo st : List Value) (h : AH) (c z : Nat) : Prop := match st with
  | .int i :: .ref r :: st => ah_T h r = 70 ∧ vp_in i (ah_N h r) ∧ N lo (.ref (ah_R h r i.toNatClampNeg) :: st) h c z
  | _ => False
theorem sx_aald70 {Y : YY} {f : Nat} {Q : OO → AH → Prop} {pc : Nat} {N : KT} (d : decode Y.2.1 pc = .ok (.aaload, 1)) (n : zz_L Y f Q (pc + 1) N) : zz_L Y f Q pc (ix_aald70 N) := by
  intro lo st h c z hi
  unfold ix_aald70 at hi
  split at hi
  · next i r st =>
    intro D sa base p l e R s m args below meth cd H locs cells slots ls A
    have kk := n _ _ _ _ _ hi.2.2 D sa base p l e R s m args below meth cd H locs cells slots ls A
    obtain ⟨F, R0, K, hb, Z, S, L, h1, h2⟩ := A
    obtain ⟨hne, q, hq, hw⟩ := zz_arr Z hi.1 (by omega)
    show W p l e R s m args below meth cd H locs cells slots _ (F0 m pc ls (.int i :: ah_rr r :: st.map (ah_v sa)))
    rw [ah_rr_pos hne]
    refine va_aldq F.1 F.2.1 K.1 Z.1 q 6 hw rfl hi.2.1 d ?_
    rw [ah_rf]
    exact kk
  · exact hi.elim
def ix_iast (N : KT) (lo st : List Value) (h : AH) (c z : Nat) : Prop := match st with
  | .int x :: .int i :: .ref r :: st => ah_T h r = 64 ∧ vp_in i (ah_N h r) ∧ N lo st (ah_sI h r i.toNatClampNeg (x)) c z
  | _ => False
theorem sx_iast {Y : YY} {f : Nat} {Q : OO → AH → Prop} {pc : Nat} {N : KT} (d : decode Y.2.1 pc = .ok (.iastore, 1)) (n : zz_L Y f Q (pc + 1) N) : zz_L Y f Q pc (ix_iast N) := by
  intro lo st h c z hi
  unfold ix_iast at hi
  split at hi
  · next x i r st =>
    intro D sa base p l e R s m args below meth cd H locs cells slots ls A
    obtain ⟨F, R0, K, hb, Z, S, L, h1, h2⟩ := A
    obtain ⟨hne, q, hq, hw⟩ := zz_arr Z hi.1 (by omega)
    show W p l e R s m args below meth cd H locs cells slots _ (F0 m pc ls (.int x :: .int i :: ah_rr r :: st.map (ah_v sa)))
    rw [ah_rr_pos hne]
    refine va_iast F.1 F.2.1 K.1 Z.1 Z.2.1 S q 0 hw rfl hi.2.1 d (fun H1 locs1 P1 D1 S1 => ?_)
    have ec : ah_cell D (ah_sI h r i.toNatClampNeg (x)) r = .inl (D.1 64, ah_N h r, Sum.inl (upd (ah_I h r) i.toNatClampNeg x)) := by
      rw [ah_cell_a (t := 64) (by exact hi.1) (by omega)]
      show Sum.inl (D.1 64, ah_N h r, Sum.inl (ah_up (ah_I h) r i.toNatClampNeg x r)) = _
      congr 4
      funext j
      simp [ah_up, upd, vp_updL, vp_nar_byte, vp_nar_short]
    exact n _ _ _ _ _ hi.2.2 D sa base p l e R s m args below meth cd H1 locs1 cells slots ls ⟨F, R0, K, hb, Z.set hq rfl rfl ah_cell_sI (by rw [ec]; exact P1) (by rw [ec]; exact D1), S1, L, h1, h2⟩
  · exact hi.elim
def ix_bast (N : KT) (lo st : List Value) (h : AH) (c z : Nat) : Prop := match st with
  | .int x :: .int i :: .ref r :: st => ah_T h r = 66 ∧ vp_in i (ah_N h r) ∧ N lo st (ah_sI h r i.toNatClampNeg (x.toInt8.toInt32)) c z
  | _ => False
theorem sx_bast {Y : YY} {f : Nat} {Q : OO → AH → Prop} {pc : Nat} {N : KT} (d : decode Y.2.1 pc = .ok (.bastore, 1)) (n : zz_L Y f Q (pc + 1) N) : zz_L Y f Q pc (ix_bast N) := by
  intro lo st h c z hi
  unfold ix_bast at hi
  split at hi
  · next x i r st =>
    intro D sa base p l e R s m args below meth cd H locs cells slots ls A
    obtain ⟨F, R0, K, hb, Z, S, L, h1, h2⟩ := A
    obtain ⟨hne, q, hq, hw⟩ := zz_arr Z hi.1 (by omega)
    show W p l e R s m args below meth cd H locs cells slots _ (F0 m pc ls (.int x :: .int i :: ah_rr r :: st.map (ah_v sa)))
    rw [ah_rr_pos hne]
    refine va_bast F.1 F.2.1 K.1 Z.1 Z.2.1 S q 2 hw rfl hi.2.1 d (fun H1 locs1 P1 D1 S1 => ?_)
    have ec : ah_cell D (ah_sI h r i.toNatClampNeg (x.toInt8.toInt32)) r = .inl (D.1 66, ah_N h r, Sum.inl (upd (ah_I h r) i.toNatClampNeg (vp_nar .byte x))) := by
      rw [ah_cell_a (t := 66) (by exact hi.1) (by omega)]
      show Sum.inl (D.1 66, ah_N h r, Sum.inl (ah_up (ah_I h) r i.toNatClampNeg x.toInt8.toInt32 r)) = _
      congr 4
      funext j
      simp [ah_up, upd, vp_updL, vp_nar_byte, vp_nar_short]
    exact n _ _ _ _ _ hi.2.2 D sa base p l e R s m args below meth cd H1 locs1 cells slots ls ⟨F, R0, K, hb, Z.set hq rfl rfl ah_cell_sI (by rw [ec]; exact P1) (by rw [ec]; exact D1), S1, L, h1, h2⟩
  · exact hi.elim
def ix_sast (N : KT) (lo st : List Value) (h : AH) (c z : Nat) : Prop := match st with
  | .int x :: .int i :: .ref r :: st => ah_T h r = 67 ∧ vp_in i (ah_N h r) ∧ N lo st (ah_sI h r i.toNatClampNeg (x.toInt16.toInt32)) c z
  | _ => False
theorem sx_sast {Y : YY} {f : Nat} {Q : OO → AH → Prop} {pc : Nat} {N : KT} (d : decode Y.2.1 pc = .ok (.sastore, 1)) (n : zz_L Y f Q (pc + 1) N) : zz_L Y f Q pc (ix_sast N) := by
  intro lo st h c z hi
  unfold ix_sast at hi
  split at hi
  · next x i r st =>
    intro D sa base p l e R s m args below meth cd H locs cells slots ls A
    obtain ⟨F, R0, K, hb, Z, S, L, h1, h2⟩ := A
    obtain ⟨hne, q, hq, hw⟩ := zz_arr Z hi.1 (by omega)
    show W p l e R s m args below meth cd H locs cells slots _ (F0 m pc ls (.int x :: .int i :: ah_rr r :: st.map (ah_v sa)))
    rw [ah_rr_pos hne]
    refine va_sast F.1 F.2.1 K.1 Z.1 Z.2.1 S q 3 hw rfl hi.2.1 d (fun H1 locs1 P1 D1 S1 => ?_)
    have ec : ah_cell D (ah_sI h r i.toNatClampNeg (x.toInt16.toInt32)) r = .inl (D.1 67, ah_N h r, Sum.inl (upd (ah_I h r) i.toNatClampNeg (vp_nar .short x))) := by
      rw [ah_cell_a (t := 67) (by exact hi.1) (by omega)]
      show Sum.inl (D.1 67, ah_N h r, Sum.inl (ah_up (ah_I h) r i.toNatClampNeg x.toInt16.toInt32 r)) = _
      congr 4
      funext j
      simp [ah_up, upd, vp_updL, vp_nar_byte, vp_nar_short]
    exact n _ _ _ _ _ hi.2.2 D sa base p l e R s m args below meth cd H1 locs1 cells slots ls ⟨F, R0, K, hb, Z.set hq rfl rfl ah_cell_sI (by rw [ec]; exact P1) (by rw [ec]; exact D1), S1, L, h1, h2⟩
  · exact hi.elim
def ix_last (N : KT) (lo st : List Value) (h : AH) (c z : Nat) : Prop := match st with
  | .long x :: .int i :: .ref r :: st => ah_T h r = 65 ∧ vp_in i (ah_N h r) ∧ N lo st (ah_sL h r i.toNatClampNeg (x)) c z
  | _ => False
theorem sx_last {Y : YY} {f : Nat} {Q : OO → AH → Prop} {pc : Nat} {N : KT} (d : decode Y.2.1 pc = .ok (.lastore, 1)) (n : zz_L Y f Q (pc + 1) N) : zz_L Y f Q pc (ix_last N) := by
  intro lo st h c z hi
  unfold ix_last at hi
  split at hi
  · next x i r st =>
    intro D sa base p l e R s m args below meth cd H locs cells slots ls A
    obtain ⟨F, R0, K, hb, Z, S, L, h1, h2⟩ := A
    obtain ⟨hne, q, hq, hw⟩ := zz_arr Z hi.1 (by omega)
    show W p l e R s m args below meth cd H locs cells slots _ (F0 m pc ls (.long x :: .int i :: ah_rr r :: st.map (ah_v sa)))
    rw [ah_rr_pos hne]
    refine va_last F.1 F.2.1 K.1 Z.1 Z.2.1 S q 1 hw rfl hi.2.1 d (fun H1 locs1 P1 D1 S1 => ?_)
    have ec : ah_cell D (ah_sL h r i.toNatClampNeg (x)) r = .inl (D.1 65, ah_N h r, Sum.inr (Sum.inl (vp_updL (ah_L h r) i.toNatClampNeg x))) := by
      rw [ah_cell_a (t := 65) (by exact hi.1) (by omega)]
      show Sum.inl (D.1 65, ah_N h r, Sum.inr (Sum.inl (ah_up (ah_L h) r i.toNatClampNeg x r))) = _
      congr 5
      funext j
      simp [ah_up, upd, vp_updL, vp_nar_byte, vp_nar_short]
    exact n _ _ _ _ _ hi.2.2 D sa base p l e R s m args below meth cd H1 locs1 cells slots ls ⟨F, R0, K, hb, Z.set hq rfl rfl ah_cell_sL (by rw [ec]; exact P1) (by rw [ec]; exact D1), S1, L, h1, h2⟩
  · exact hi.elim
def ix_alen (N : KT) (lo st : List Value) (h : AH) (c z : Nat) : Prop := match st with
  | .ref r :: st => (64 ≤ ah_T h r ∧ ah_T h r < 71) ∧ N lo (.int (nI (ah_N h r)) :: st) h c z
  | _ => False
theorem zz_tys_at {D : va_G} {t : Nat} (h1 : 64 ≤ t) (h2 : t < 71) : ∃ ty, (zz_tys D)[t - 64]? = some (D.1 t, ty) := by
  rcases (show t = 64 ∨ t = 65 ∨ t = 66 ∨ t = 67 ∨ t = 68 ∨ t = 69 ∨ t = 70 by omega) with rfl | rfl | rfl | rfl | rfl | rfl | rfl <;> exact ⟨_, rfl⟩
theorem sx_alen {Y : YY} {f : Nat} {Q : OO → AH → Prop} {pc : Nat} {N : KT} (d : decode Y.2.1 pc = .ok (.arraylength, 1)) (n : zz_L Y f Q (pc + 1) N) : zz_L Y f Q pc (ix_alen N) := by
  intro lo st h c z hi
  unfold ix_alen at hi
  split at hi
  · next r st =>
    intro D sa base p l e R s m args below meth cd H locs cells slots ls A
    have kk := n _ _ _ _ _ hi.2 D sa base p l e R s m args below meth cd H locs cells slots ls A
    obtain ⟨F, R0, K, hb, Z, S, L, h1, h2⟩ := A
    obtain ⟨hne, q, hq, hw⟩ := zz_arr Z rfl hi.1.1
    obtain ⟨ty, hty⟩ := zz_tys_at (D := D) hi.1.1 hi.1.2
    show W p l e R s m args below meth cd H locs cells slots _ (F0 m pc ls (ah_rr r :: st.map (ah_v sa)))
    rw [ah_rr_pos hne]
    exact va_alen F.1 F.2.1 K.1 Z.1 q _ hw hty rfl d kk
  · exact hi.elim
def ix_aast68 (N : KT) (lo st : List Value) (h : AH) (c z : Nat) : Prop := match st with
  | .ref x :: .int i :: .ref r :: st => ah_T h r = 68 ∧ ah_T h x = 2 ∧ vp_in i (ah_N h r) ∧ N lo st (ah_sR h r i.toNatClampNeg x) c z
  | _ => False
theorem sx_aast68 {Y : YY} {f : Nat} {Q : OO → AH → Prop} {pc : Nat} {N : KT} {cT : u_T} {cN : Nat} (hC : zz_CL 1 "IslandCall$Tray" cT cN) (d : decode Y.2.1 pc = .ok (.aastore, 1)) (n : zz_L Y f Q (pc + 1) N) : zz_L Y f Q pc (ix_aast68 N) := by
  intro lo st h c z hi
  unfold ix_aast68 at hi
  split at hi
  · next x i r st =>
    intro D sa base p l e R s m args below meth cd H locs cells slots ls A
    obtain ⟨F, R0, K, hb, Z, S, L, h1, h2⟩ := A
    obtain ⟨hne, q, hq, hw⟩ := zz_arr Z hi.1 (by omega)
    have hx0 : ah_T h x ≠ 0 := by rw [hi.2.1]; omega
    have hnx := Z.ne hx0
    obtain ⟨qx, -, hwx⟩ := Z.at hx0
    rw [ah_cell_o (ci := 1) hi.2.1 (by omega)] at hwx
    show W p l e R s m args below meth cd H locs cells slots _ (F0 m pc ls (ah_rr x :: .int i :: ah_rr r :: st.map (ah_v sa)))
    rw [ah_rr_pos hne, ah_rr_pos hnx]
    refine va_astq F.1 F.2.1 K.1 Z.1 Z.2.1 S q 4 qx 1 (r := ("IslandCall$Tray", cT, cN)) hw rfl hwx hC.1 hi.2.2.1 d (fun H1 locs1 P1 D1 S1 => ?_)
    have ec : ah_cell D (ah_sR h r i.toNatClampNeg x) r = .inl (D.1 68, ah_N h r, .inr (.inr (.inr (.inr (va_up (fun k => ah_ro (ah_R h r k)) i.toNatClampNeg (some (x - 1))))))) := by
      rw [ah_cell_a (t := 68) (by exact hi.1) (by omega)]
      show Sum.inl (D.1 68, ah_N h r, Sum.inr (Sum.inr (Sum.inr (Sum.inr (fun k => ah_ro (ah_up (ah_R h) r i.toNatClampNeg x r k)))))) = _
      congr 7
      funext j
      by_cases hj : j = i.toNatClampNeg
      · subst hj
        cases x with
        | zero => exact absurd rfl hnx
        | succ x => simp [ah_up, va_up, ah_ro]
      · simp [ah_up, va_up, hj]
    exact n _ _ _ _ _ hi.2.2.2 D sa base p l e R s m args below meth cd H1 locs1 cells slots ls ⟨F, R0, K, hb, Z.set hq rfl rfl ah_cell_sR (by rw [ec]; exact P1) (by rw [ec]; exact D1), S1, L, h1, h2⟩
  · exact hi.elim
def ix_aast69 (N : KT) (lo st : List Value) (h : AH) (c z : Nat) : Prop := match st with
  | .ref x :: .int i :: .ref r :: st => ah_T h r = 69 ∧ ah_T h x = 5 ∧ vp_in i (ah_N h r) ∧ N lo st (ah_sR h r i.toNatClampNeg x) c z
  | _ => False
theorem sx_aast69 {Y : YY} {f : Nat} {Q : OO → AH → Prop} {pc : Nat} {N : KT} {cT : u_T} {cN : Nat} (hC : zz_CL 4 "IslandCall$House" cT cN) (d : decode Y.2.1 pc = .ok (.aastore, 1)) (n : zz_L Y f Q (pc + 1) N) : zz_L Y f Q pc (ix_aast69 N) := by
  intro lo st h c z hi
  unfold ix_aast69 at hi
  split at hi
  · next x i r st =>
    intro D sa base p l e R s m args below meth cd H locs cells slots ls A
    obtain ⟨F, R0, K, hb, Z, S, L, h1, h2⟩ := A
    obtain ⟨hne, q, hq, hw⟩ := zz_arr Z hi.1 (by omega)
    have hx0 : ah_T h x ≠ 0 := by rw [hi.2.1]; omega
    have hnx := Z.ne hx0
    obtain ⟨qx, -, hwx⟩ := Z.at hx0
    rw [ah_cell_o (ci := 4) hi.2.1 (by omega)] at hwx
    show W p l e R s m args below meth cd H locs cells slots _ (F0 m pc ls (ah_rr x :: .int i :: ah_rr r :: st.map (ah_v sa)))
    rw [ah_rr_pos hne, ah_rr_pos hnx]
    refine va_astq F.1 F.2.1 K.1 Z.1 Z.2.1 S q 5 qx 4 (r := ("IslandCall$House", cT, cN)) hw rfl hwx hC.1 hi.2.2.1 d (fun H1 locs1 P1 D1 S1 => ?_)
    have ec : ah_cell D (ah_sR h r i.toNatClampNeg x) r = .inl (D.1 69, ah_N h r, .inr (.inr (.inr (.inr (va_up (fun k => ah_ro (ah_R h r k)) i.toNatClampNeg (some (x - 1))))))) := by
      rw [ah_cell_a (t := 69) (by exact hi.1) (by omega)]
      show Sum.inl (D.1 69, ah_N h r, Sum.inr (Sum.inr (Sum.inr (Sum.inr (fun k => ah_ro (ah_up (ah_R h) r i.toNatClampNeg x r k)))))) = _
      congr 7
      funext j
      by_cases hj : j = i.toNatClampNeg
      · subst hj
        cases x with
        | zero => exact absurd rfl hnx
        | succ x => simp [ah_up, va_up, ah_ro]
      · simp [ah_up, va_up, hj]
    exact n _ _ _ _ _ hi.2.2.2 D sa base p l e R s m args below meth cd H1 locs1 cells slots ls ⟨F, R0, K, hb, Z.set hq rfl rfl ah_cell_sR (by rw [ec]; exact P1) (by rw [ec]; exact D1), S1, L, h1, h2⟩
  · exact hi.elim
def ix_aast70 (N : KT) (lo st : List Value) (h : AH) (c z : Nat) : Prop := match st with
  | .ref x :: .int i :: .ref r :: st => ah_T h r = 70 ∧ (ah_T h x = 9 ∨ ah_T h x = 10 ∨ ah_T h x = 11) ∧ vp_in i (ah_N h r) ∧ N lo st (ah_sR h r i.toNatClampNeg x) c z
  | _ => False
theorem sx_aast70 {Y : YY} {f : Nat} {Q : OO → AH → Prop} {pc : Nat} {N : KT} (hC : ∀ ci, 8 ≤ ci → ci ≤ 10 → ∃ (C : String) (cT : u_T) (cN : Nat), zz_CL ci C cT cN ∧ Cond.castable C "IslandCall$Step" ∈ lw_tbl) (d : decode Y.2.1 pc = .ok (.aastore, 1)) (n : zz_L Y f Q (pc + 1) N) : zz_L Y f Q pc (ix_aast70 N) := by
  intro lo st h c z hi
  unfold ix_aast70 at hi
  split at hi
  · next x i r st =>
    intro D sa base p l e R s m args below meth cd H locs cells slots ls A
    obtain ⟨F, R0, K, hb, Z, S, L, h1, h2⟩ := A
    obtain ⟨hne, q, hq, hw⟩ := zz_arr Z hi.1 (by omega)
    obtain ⟨ci, hci, g1, g2⟩ : ∃ ci, ah_T h x = ci + 1 ∧ 8 ≤ ci ∧ ci ≤ 10 := by
      rcases hi.2.1 with e | e | e
      · exact ⟨8, e, by omega, by omega⟩
      · exact ⟨9, e, by omega, by omega⟩
      · exact ⟨10, e, by omega, by omega⟩
    obtain ⟨C, cT, cN, hCL, hcast⟩ := hC ci g1 g2
    have hx0 : ah_T h x ≠ 0 := by rw [hci]; omega
    have hnx := Z.ne hx0
    obtain ⟨qx, -, hwx⟩ := Z.at hx0
    rw [ah_cell_o (ci := ci) hci (by omega)] at hwx
    show W p l e R s m args below meth cd H locs cells slots _ (F0 m pc ls (ah_rr x :: .int i :: ah_rr r :: st.map (ah_v sa)))
    rw [ah_rr_pos hne, ah_rr_pos hnx]
    refine va_astqO F.1 F.2.1 K.1 Z.1 Z.2.1 S q 6 qx ci (r := (C, cT, cN)) hw rfl (K.2.2.2.1 _ _ hcast) hwx hCL.1 hi.2.2.1 d (fun H1 locs1 P1 D1 S1 => ?_)
    have ec : ah_cell D (ah_sR h r i.toNatClampNeg x) r = .inl (D.1 70, ah_N h r, .inr (.inr (.inr (.inr (va_up (fun k => ah_ro (ah_R h r k)) i.toNatClampNeg (some (x - 1))))))) := by
      rw [ah_cell_a (t := 70) (by exact hi.1) (by omega)]
      show Sum.inl (D.1 70, ah_N h r, Sum.inr (Sum.inr (Sum.inr (Sum.inr (fun k => ah_ro (ah_up (ah_R h) r i.toNatClampNeg x r k)))))) = _
      congr 7
      funext j
      by_cases hj : j = i.toNatClampNeg
      · subst hj
        cases x with
        | zero => exact absurd rfl hnx
        | succ x => simp [ah_up, va_up, ah_ro]
      · simp [ah_up, va_up, hj]
    exact n _ _ _ _ _ hi.2.2.2 D sa base p l e R s m args below meth cd H1 locs1 cells slots ls ⟨F, R0, K, hb, Z.set hq rfl rfl ah_cell_sR (by rw [ec]; exact P1) (by rw [ec]; exact D1), S1, L, h1, h2⟩
  · exact hi.elim
def ah_tyok (ty : FieldType) : Bool := match ty with
  | .float => false
  | .double => false
  | _ => true
theorem ah_fv_new {h : AH} {r t n k : Nat} {ty : FieldType} (ok : ah_tyok ty = true) : ah_fv (ah_new h r t n) ty r k = defaultValue ty := by
  have e1 : ah_I (ah_new h r t n) r k = 0 := if_pos rfl
  have e2 : ah_L (ah_new h r t n) r k = 0 := if_pos rfl
  have e3 : ah_R (ah_new h r t n) r k = 0 := if_pos rfl
  cases ty <;> first | (cases ok; done) | (simp only [ah_fv, e1, e2, e3]; rfl)
def ix_new (t nf : Nat) (N : KT) (lo st : List Value) (h : AH) (c z : Nat) : Prop := 1 ≤ c ∧ nf ≤ z ∧ ∀ r, r ≠ 0 → ah_T h r = 0 → N lo (.ref r :: st) (ah_new h r t 0) (c - 1) (z - nf)
theorem sx_new {Y : YY} {f : Nat} {Q : OO → AH → Prop} {pc : Nat} {N : KT} {ci idx nn t : Nat} {C : String} {T : u_T} (hC : zz_CL ci C T nn) (ht : ci + 1 = t) (hok : ∀ k, k < nn → ah_tyok (zz_ty ci k) = true) (hl : Cond.classLink Y.1.cls idx C ∈ lw_all) (hi1 : Cond.instantiable C nn ∈ lw_all) (hi2 : Cond.initialized C ∈ lw_all) (d : decode Y.2.1 pc = .ok (.new idx, 3)) (n : zz_L Y f Q (pc + 3) N) : zz_L Y f Q pc (ix_new t nn N) := by
  intro lo st h c z hi D sa base p l e R s m args below meth cd H locs cells slots ls A
  obtain ⟨F, R0, K, hb, Z, S, L, h1, h2⟩ := A
  have F' := F
  obtain ⟨fx, fb, fm, fo, fw, fr, fl, fn, ft, fe⟩ := F
  obtain ⟨g1, g2, g3⟩ := hi
  obtain ⟨hc, hin, hN, hci, hty, hnm⟩ := hC
  refine va_new (c0 := cd) (fs := (List.range nn).map (fun j => defaultValue (zz_ty ci j))) fx fb fw hin (zz_ty ci) hty fo (fw _ hl) (fw _ hi1) (fw _ hi2) K.1 Z.1 Z.2.1 S (fun q hq => Nat.le_trans hb hq) hc (fun j hj => ?_) (by omega) (by omega) d (fun q H1 P1 D1 S1 => ?_)
  · show _ = (List.map (fun j => defaultValue (zz_ty ci j)) (List.range nn)).getD j Value.null
    rw [List.getD_eq_getElem?_getD, List.getElem?_map, List.getElem?_range hj]
    rfl
  · have ec : Sum.inr (ci, (List.range nn).map (fun j => defaultValue (zz_ty ci j))) = ah_cell D (ah_new h (q + 1) t 0) (q + 1) := by
      rw [ah_cell_o (ci := ci) (by show (if q + 1 = q + 1 then t else _) = _; rw [if_pos rfl, ht]) hci]
      unfold ah_fs
      rw [hN]
      congr 2
      apply List.map_congr_left
      intro j hj
      exact (ah_fv_new (hok j (List.mem_range.mp hj))).symm
    obtain ⟨z1, z2⟩ := Z.push (t := t) (n := 0) (by omega) ec P1 D1
    exact n _ _ _ _ _ (g3 (q + 1) (Nat.succ_ne_zero q) z1) D sa base p l e R s m args below meth cd H1 locs (cells + 1) (slots + nn) ls ⟨F', R0, K, hb, z2, S1, L, by omega, by omega⟩
def ix_newa (t : Nat) (N : KT) (lo st : List Value) (h : AH) (c z : Nat) : Prop := match st with
  | .int n :: st => ¬ n < 0 ∧ n.toNatClampNeg ≤ 65536 ∧ 1 ≤ c ∧ n.toNatClampNeg ≤ z ∧ ∀ r, r ≠ 0 → ah_T h r = 0 → N lo (.ref r :: st) (ah_new h r t n.toNatClampNeg) (c - 1) (z - n.toNatClampNeg)
  | _ => False
theorem sx_newa64 {Y : YY} {f : Nat} {Q : OO → AH → Prop} {pc : Nat} {N : KT} (ha : Cond.arrayClass (newarray.typeOf .int) ∈ lw_all) (d : decode Y.2.1 pc = .ok (.newarray .int, 2)) (n : zz_L Y f Q (pc + 2) N) : zz_L Y f Q pc (ix_newa 64 N) := by
  intro lo st h c z hi
  unfold ix_newa at hi
  split at hi
  · next x st =>
    intro D sa base p l e R s m args below meth cd H locs cells slots ls A
    obtain ⟨F, R0, K, hb, Z, S, L, h1, h2⟩ := A
    have F' := F
    obtain ⟨fx, fb, fm, fo, fw, fr, fl, fn, ft, fe⟩ := F
    obtain ⟨g0, g1, g2, g3, g4⟩ := hi
    refine va_newa (atype := .int) (ty := .int) fx fb (fw _ ha) rfl K.1 Z.1 Z.2.1 S (fun q hq => Nat.le_trans hb hq) (N' := x.toNatClampNeg) (a0 := (x.toNatClampNeg, .inl (fun _ => 0))) (fun _ => rfl) g0 rfl (by show _ * 4 ≤ _; omega) (by omega) (by omega) d (fun q cA H1 K1 P1 D1 S1 => ?_)
    have hcA : cA = D.1 64 := by
      have a1 : s.vm.findClass _ = some cA := (K1.2 7 (cA, .int) rfl).2
      have a2 : s.vm.findClass _ = some (D.1 64) := (K.1.2 0 (D.1 64, .int) rfl).2
      exact Option.some.inj (a1.symm.trans a2)
    subst hcA
    have ec : Sum.inl (D.1 64, x.toNatClampNeg, .inl (fun _ => 0)) = ah_cell D (ah_new h (q + 1) 64 x.toNatClampNeg) (q + 1) := by
      rw [ah_cell_a (t := 64) (by show (if q + 1 = q + 1 then 64 else _) = _; rw [if_pos rfl]) (by omega)]
      have e1 : ah_N (ah_new h (q + 1) 64 x.toNatClampNeg) (q + 1) = x.toNatClampNeg := if_pos rfl
      have e2 : ah_I (ah_new h (q + 1) 64 x.toNatClampNeg) (q + 1) = fun _ => 0 := funext fun j => if_pos rfl
      have e3 : ah_L (ah_new h (q + 1) 64 x.toNatClampNeg) (q + 1) = fun _ => 0 := funext fun j => if_pos rfl
      rw [e1]
      simp [ah_arr, e2, e3]
    obtain ⟨z1, z2⟩ := Z.push (t := 64) (n := x.toNatClampNeg) (by omega) ec P1 D1
    exact n _ _ _ _ _ (g4 (q + 1) (Nat.succ_ne_zero q) z1) D sa base p l e R s m args below meth cd H1 locs (cells + 1) (slots + x.toNatClampNeg) ls ⟨F', R0, K, hb, z2, S1, L, by omega, by omega⟩
  · exact hi.elim
theorem sx_newa65 {Y : YY} {f : Nat} {Q : OO → AH → Prop} {pc : Nat} {N : KT} (ha : Cond.arrayClass (newarray.typeOf .long) ∈ lw_all) (d : decode Y.2.1 pc = .ok (.newarray .long, 2)) (n : zz_L Y f Q (pc + 2) N) : zz_L Y f Q pc (ix_newa 65 N) := by
  intro lo st h c z hi
  unfold ix_newa at hi
  split at hi
  · next x st =>
    intro D sa base p l e R s m args below meth cd H locs cells slots ls A
    obtain ⟨F, R0, K, hb, Z, S, L, h1, h2⟩ := A
    have F' := F
    obtain ⟨fx, fb, fm, fo, fw, fr, fl, fn, ft, fe⟩ := F
    obtain ⟨g0, g1, g2, g3, g4⟩ := hi
    refine va_newa (atype := .long) (ty := .long) fx fb (fw _ ha) rfl K.1 Z.1 Z.2.1 S (fun q hq => Nat.le_trans hb hq) (N' := x.toNatClampNeg) (a0 := (x.toNatClampNeg, .inr (.inl (fun _ => 0)))) (fun _ => rfl) g0 rfl (by show _ * 8 ≤ _; omega) (by omega) (by omega) d (fun q cA H1 K1 P1 D1 S1 => ?_)
    have hcA : cA = D.1 65 := by
      have a1 : s.vm.findClass _ = some cA := (K1.2 7 (cA, .long) rfl).2
      have a2 : s.vm.findClass _ = some (D.1 65) := (K.1.2 1 (D.1 65, .long) rfl).2
      exact Option.some.inj (a1.symm.trans a2)
    subst hcA
    have ec : Sum.inl (D.1 65, x.toNatClampNeg, .inr (.inl (fun _ => 0))) = ah_cell D (ah_new h (q + 1) 65 x.toNatClampNeg) (q + 1) := by
      rw [ah_cell_a (t := 65) (by show (if q + 1 = q + 1 then 65 else _) = _; rw [if_pos rfl]) (by omega)]
      have e1 : ah_N (ah_new h (q + 1) 65 x.toNatClampNeg) (q + 1) = x.toNatClampNeg := if_pos rfl
      have e2 : ah_I (ah_new h (q + 1) 65 x.toNatClampNeg) (q + 1) = fun _ => 0 := funext fun j => if_pos rfl
      have e3 : ah_L (ah_new h (q + 1) 65 x.toNatClampNeg) (q + 1) = fun _ => 0 := funext fun j => if_pos rfl
      rw [e1]
      simp [ah_arr, e2, e3]
    obtain ⟨z1, z2⟩ := Z.push (t := 65) (n := x.toNatClampNeg) (by omega) ec P1 D1
    exact n _ _ _ _ _ (g4 (q + 1) (Nat.succ_ne_zero q) z1) D sa base p l e R s m args below meth cd H1 locs (cells + 1) (slots + x.toNatClampNeg) ls ⟨F', R0, K, hb, z2, S1, L, by omega, by omega⟩
  · exact hi.elim
theorem sx_newa66 {Y : YY} {f : Nat} {Q : OO → AH → Prop} {pc : Nat} {N : KT} (ha : Cond.arrayClass (newarray.typeOf .byte) ∈ lw_all) (d : decode Y.2.1 pc = .ok (.newarray .byte, 2)) (n : zz_L Y f Q (pc + 2) N) : zz_L Y f Q pc (ix_newa 66 N) := by
  intro lo st h c z hi
  unfold ix_newa at hi
  split at hi
  · next x st =>
    intro D sa base p l e R s m args below meth cd H locs cells slots ls A
    obtain ⟨F, R0, K, hb, Z, S, L, h1, h2⟩ := A
    have F' := F
    obtain ⟨fx, fb, fm, fo, fw, fr, fl, fn, ft, fe⟩ := F
    obtain ⟨g0, g1, g2, g3, g4⟩ := hi
    refine va_newa (atype := .byte) (ty := .byte) fx fb (fw _ ha) rfl K.1 Z.1 Z.2.1 S (fun q hq => Nat.le_trans hb hq) (N' := x.toNatClampNeg) (a0 := (x.toNatClampNeg, .inl (fun _ => 0))) (fun _ => rfl) g0 rfl (by show _ * 1 ≤ _; omega) (by omega) (by omega) d (fun q cA H1 K1 P1 D1 S1 => ?_)
    have hcA : cA = D.1 66 := by
      have a1 : s.vm.findClass _ = some cA := (K1.2 7 (cA, .byte) rfl).2
      have a2 : s.vm.findClass _ = some (D.1 66) := (K.1.2 2 (D.1 66, .byte) rfl).2
      exact Option.some.inj (a1.symm.trans a2)
    subst hcA
    have ec : Sum.inl (D.1 66, x.toNatClampNeg, .inl (fun _ => 0)) = ah_cell D (ah_new h (q + 1) 66 x.toNatClampNeg) (q + 1) := by
      rw [ah_cell_a (t := 66) (by show (if q + 1 = q + 1 then 66 else _) = _; rw [if_pos rfl]) (by omega)]
      have e1 : ah_N (ah_new h (q + 1) 66 x.toNatClampNeg) (q + 1) = x.toNatClampNeg := if_pos rfl
      have e2 : ah_I (ah_new h (q + 1) 66 x.toNatClampNeg) (q + 1) = fun _ => 0 := funext fun j => if_pos rfl
      have e3 : ah_L (ah_new h (q + 1) 66 x.toNatClampNeg) (q + 1) = fun _ => 0 := funext fun j => if_pos rfl
      rw [e1]
      simp [ah_arr, e2, e3]
    obtain ⟨z1, z2⟩ := Z.push (t := 66) (n := x.toNatClampNeg) (by omega) ec P1 D1
    exact n _ _ _ _ _ (g4 (q + 1) (Nat.succ_ne_zero q) z1) D sa base p l e R s m args below meth cd H1 locs (cells + 1) (slots + x.toNatClampNeg) ls ⟨F', R0, K, hb, z2, S1, L, by omega, by omega⟩
  · exact hi.elim
theorem sx_newa67 {Y : YY} {f : Nat} {Q : OO → AH → Prop} {pc : Nat} {N : KT} (ha : Cond.arrayClass (newarray.typeOf .short) ∈ lw_all) (d : decode Y.2.1 pc = .ok (.newarray .short, 2)) (n : zz_L Y f Q (pc + 2) N) : zz_L Y f Q pc (ix_newa 67 N) := by
  intro lo st h c z hi
  unfold ix_newa at hi
  split at hi
  · next x st =>
    intro D sa base p l e R s m args below meth cd H locs cells slots ls A
    obtain ⟨F, R0, K, hb, Z, S, L, h1, h2⟩ := A
    have F' := F
    obtain ⟨fx, fb, fm, fo, fw, fr, fl, fn, ft, fe⟩ := F
    obtain ⟨g0, g1, g2, g3, g4⟩ := hi
    refine va_newa (atype := .short) (ty := .short) fx fb (fw _ ha) rfl K.1 Z.1 Z.2.1 S (fun q hq => Nat.le_trans hb hq) (N' := x.toNatClampNeg) (a0 := (x.toNatClampNeg, .inl (fun _ => 0))) (fun _ => rfl) g0 rfl (by show _ * 2 ≤ _; omega) (by omega) (by omega) d (fun q cA H1 K1 P1 D1 S1 => ?_)
    have hcA : cA = D.1 67 := by
      have a1 : s.vm.findClass _ = some cA := (K1.2 7 (cA, .short) rfl).2
      have a2 : s.vm.findClass _ = some (D.1 67) := (K.1.2 3 (D.1 67, .short) rfl).2
      exact Option.some.inj (a1.symm.trans a2)
    subst hcA
    have ec : Sum.inl (D.1 67, x.toNatClampNeg, .inl (fun _ => 0)) = ah_cell D (ah_new h (q + 1) 67 x.toNatClampNeg) (q + 1) := by
      rw [ah_cell_a (t := 67) (by show (if q + 1 = q + 1 then 67 else _) = _; rw [if_pos rfl]) (by omega)]
      have e1 : ah_N (ah_new h (q + 1) 67 x.toNatClampNeg) (q + 1) = x.toNatClampNeg := if_pos rfl
      have e2 : ah_I (ah_new h (q + 1) 67 x.toNatClampNeg) (q + 1) = fun _ => 0 := funext fun j => if_pos rfl
      have e3 : ah_L (ah_new h (q + 1) 67 x.toNatClampNeg) (q + 1) = fun _ => 0 := funext fun j => if_pos rfl
      rw [e1]
      simp [ah_arr, e2, e3]
    obtain ⟨z1, z2⟩ := Z.push (t := 67) (n := x.toNatClampNeg) (by omega) ec P1 D1
    exact n _ _ _ _ _ (g4 (q + 1) (Nat.succ_ne_zero q) z1) D sa base p l e R s m args below meth cd H1 locs (cells + 1) (slots + x.toNatClampNeg) ls ⟨F', R0, K, hb, z2, S1, L, by omega, by omega⟩
  · exact hi.elim
theorem sx_newa68 {Y : YY} {f : Nat} {Q : OO → AH → Prop} {pc : Nat} {N : KT} {idx : Nat} (hl : Cond.classLink Y.1.cls idx "IslandCall$Tray" ∈ lw_all) (d : decode Y.2.1 pc = .ok (.anewarray idx, 3)) (n : zz_L Y f Q (pc + 3) N) : zz_L Y f Q pc (ix_newa 68 N) := by
  intro lo st h c z hi
  unfold ix_newa at hi
  split at hi
  · next x st =>
    intro D sa base p l e R s m args below meth cd H locs cells slots ls A
    obtain ⟨F, R0, K, hb, Z, S, L, h1, h2⟩ := A
    have F' := F
    obtain ⟨fx, fb, fm, fo, fw, fr, fl, fn, ft, fe⟩ := F
    obtain ⟨g0, g1, g2, g3, g4⟩ := hi
    refine va_newq fx fb fo (fw _ hl) K.2.2.2.2.2.1.1 K.1 Z.1 Z.2.1 S (fun q hq => Nat.le_trans hb hq) g0 rfl (by omega) (by omega) (by omega) d (fun q cA H1 K1 P1 D1 S1 => ?_)
    have hcA : cA = D.1 68 := by
      obtain ⟨_, _, -, -, -, a1⟩ := (K1.2 7 (cA, .object "IslandCall$Tray") rfl).2
      obtain ⟨_, _, -, -, -, a2⟩ := (K.1.2 4 (D.1 68, .object "IslandCall$Tray") rfl).2
      exact Option.some.inj (a1.symm.trans a2)
    subst hcA
    have ec : Sum.inl (D.1 68, x.toNatClampNeg, .inr (.inr (.inr (.inr (fun _ => none))))) = ah_cell D (ah_new h (q + 1) 68 x.toNatClampNeg) (q + 1) := by
      rw [ah_cell_a (t := 68) (by show (if q + 1 = q + 1 then 68 else _) = _; rw [if_pos rfl]) (by omega)]
      have e1 : ah_N (ah_new h (q + 1) 68 x.toNatClampNeg) (q + 1) = x.toNatClampNeg := if_pos rfl
      have e2 : ah_R (ah_new h (q + 1) 68 x.toNatClampNeg) (q + 1) = fun _ => 0 := funext fun j => if_pos rfl
      rw [e1]
      simp [ah_arr, e2, ah_ro]
    obtain ⟨z1, z2⟩ := Z.push (t := 68) (n := x.toNatClampNeg) (by omega) ec P1 D1
    exact n _ _ _ _ _ (g4 (q + 1) (Nat.succ_ne_zero q) z1) D sa base p l e R s m args below meth cd H1 locs (cells + 1) (slots + x.toNatClampNeg) ls ⟨F', R0, K, hb, z2, S1, L, by omega, by omega⟩
  · exact hi.elim
theorem sx_newa69 {Y : YY} {f : Nat} {Q : OO → AH → Prop} {pc : Nat} {N : KT} {idx : Nat} (hl : Cond.classLink Y.1.cls idx "IslandCall$House" ∈ lw_all) (d : decode Y.2.1 pc = .ok (.anewarray idx, 3)) (n : zz_L Y f Q (pc + 3) N) : zz_L Y f Q pc (ix_newa 69 N) := by
  intro lo st h c z hi
  unfold ix_newa at hi
  split at hi
  · next x st =>
    intro D sa base p l e R s m args below meth cd H locs cells slots ls A
    obtain ⟨F, R0, K, hb, Z, S, L, h1, h2⟩ := A
    have F' := F
    obtain ⟨fx, fb, fm, fo, fw, fr, fl, fn, ft, fe⟩ := F
    obtain ⟨g0, g1, g2, g3, g4⟩ := hi
    refine va_newq fx fb fo (fw _ hl) K.2.2.2.2.2.1.2.1 K.1 Z.1 Z.2.1 S (fun q hq => Nat.le_trans hb hq) g0 rfl (by omega) (by omega) (by omega) d (fun q cA H1 K1 P1 D1 S1 => ?_)
    have hcA : cA = D.1 69 := by
      obtain ⟨_, _, -, -, -, a1⟩ := (K1.2 7 (cA, .object "IslandCall$House") rfl).2
      obtain ⟨_, _, -, -, -, a2⟩ := (K.1.2 5 (D.1 69, .object "IslandCall$House") rfl).2
      exact Option.some.inj (a1.symm.trans a2)
    subst hcA
    have ec : Sum.inl (D.1 69, x.toNatClampNeg, .inr (.inr (.inr (.inr (fun _ => none))))) = ah_cell D (ah_new h (q + 1) 69 x.toNatClampNeg) (q + 1) := by
      rw [ah_cell_a (t := 69) (by show (if q + 1 = q + 1 then 69 else _) = _; rw [if_pos rfl]) (by omega)]
      have e1 : ah_N (ah_new h (q + 1) 69 x.toNatClampNeg) (q + 1) = x.toNatClampNeg := if_pos rfl
      have e2 : ah_R (ah_new h (q + 1) 69 x.toNatClampNeg) (q + 1) = fun _ => 0 := funext fun j => if_pos rfl
      rw [e1]
      simp [ah_arr, e2, ah_ro]
    obtain ⟨z1, z2⟩ := Z.push (t := 69) (n := x.toNatClampNeg) (by omega) ec P1 D1
    exact n _ _ _ _ _ (g4 (q + 1) (Nat.succ_ne_zero q) z1) D sa base p l e R s m args below meth cd H1 locs (cells + 1) (slots + x.toNatClampNeg) ls ⟨F', R0, K, hb, z2, S1, L, by omega, by omega⟩
  · exact hi.elim
theorem sx_newa70 {Y : YY} {f : Nat} {Q : OO → AH → Prop} {pc : Nat} {N : KT} {idx : Nat} (hl : Cond.classLink Y.1.cls idx "IslandCall$Step" ∈ lw_all) (d : decode Y.2.1 pc = .ok (.anewarray idx, 3)) (n : zz_L Y f Q (pc + 3) N) : zz_L Y f Q pc (ix_newa 70 N) := by
  intro lo st h c z hi
  unfold ix_newa at hi
  split at hi
  · next x st =>
    intro D sa base p l e R s m args below meth cd H locs cells slots ls A
    obtain ⟨F, R0, K, hb, Z, S, L, h1, h2⟩ := A
    have F' := F
    obtain ⟨fx, fb, fm, fo, fw, fr, fl, fn, ft, fe⟩ := F
    obtain ⟨g0, g1, g2, g3, g4⟩ := hi
    refine va_newq fx fb fo (fw _ hl) K.2.2.2.2.2.1.2.2 K.1 Z.1 Z.2.1 S (fun q hq => Nat.le_trans hb hq) g0 rfl (by omega) (by omega) (by omega) d (fun q cA H1 K1 P1 D1 S1 => ?_)
    have hcA : cA = D.1 70 := by
      obtain ⟨_, _, -, -, -, a1⟩ := (K1.2 7 (cA, .object "IslandCall$Step") rfl).2
      obtain ⟨_, _, -, -, -, a2⟩ := (K.1.2 6 (D.1 70, .object "IslandCall$Step") rfl).2
      exact Option.some.inj (a1.symm.trans a2)
    subst hcA
    have ec : Sum.inl (D.1 70, x.toNatClampNeg, .inr (.inr (.inr (.inr (fun _ => none))))) = ah_cell D (ah_new h (q + 1) 70 x.toNatClampNeg) (q + 1) := by
      rw [ah_cell_a (t := 70) (by show (if q + 1 = q + 1 then 70 else _) = _; rw [if_pos rfl]) (by omega)]
      have e1 : ah_N (ah_new h (q + 1) 70 x.toNatClampNeg) (q + 1) = x.toNatClampNeg := if_pos rfl
      have e2 : ah_R (ah_new h (q + 1) 70 x.toNatClampNeg) (q + 1) = fun _ => 0 := funext fun j => if_pos rfl
      rw [e1]
      simp [ah_arr, e2, ah_ro]
    obtain ⟨z1, z2⟩ := Z.push (t := 70) (n := x.toNatClampNeg) (by omega) ec P1 D1
    exact n _ _ _ _ _ (g4 (q + 1) (Nat.succ_ne_zero q) z1) D sa base p l e R s m args below meth cd H1 locs (cells + 1) (slots + x.toNatClampNeg) ls ⟨F', R0, K, hb, z2, S1, L, by omega, by omega⟩
  · exact hi.elim
theorem tok0 : ∀ k, k < 18 → ah_tyok (zz_ty 0 k) = true := by decide +kernel
theorem tok1 : ∀ k, k < 1 → ah_tyok (zz_ty 1 k) = true := by decide +kernel
theorem tok2 : ∀ k, k < 8 → ah_tyok (zz_ty 2 k) = true := by decide +kernel
theorem tok3 : ∀ k, k < 7 → ah_tyok (zz_ty 3 k) = true := by decide +kernel
theorem tok4 : ∀ k, k < 2 → ah_tyok (zz_ty 4 k) = true := by decide +kernel
theorem tok5 : ∀ k, k < 16 → ah_tyok (zz_ty 5 k) = true := by decide +kernel
theorem tok6 : ∀ k, k < 37 → ah_tyok (zz_ty 6 k) = true := by decide +kernel
theorem tok7 : ∀ k, k < 8 → ah_tyok (zz_ty 7 k) = true := by decide +kernel
theorem tok10 : ∀ k, k < 3 → ah_tyok (zz_ty 8 k) = true := by decide +kernel
theorem tok11 : ∀ k, k < 6 → ah_tyok (zz_ty 9 k) = true := by decide +kernel
theorem tok12 : ∀ k, k < 3 → ah_tyok (zz_ty 10 k) = true := by decide +kernel
theorem tok13 : ∀ k, k < 9 → ah_tyok (zz_ty 11 k) = true := by decide +kernel
