set_option maxRecDepth 100000
/-! MORE INSTRUCTIONS -/
theorem lw_l5 {own : String} {idx : Nat} {x y : MethodName} {ow C : String} (h1 : Cond.methodLink own idx x ∈ lw_all) (h2 : Cond.sameMethod x.cls ow x.name x.desc ∈ lw_all) (h3 : Cond.selects C x y ∈ lw_all) (h4 : Cond.instanceMethod y ∈ lw_all) (h5 : Cond.initialized y.cls ∈ lw_all) : ∀ w ∈ ([.methodLink own idx x, .sameMethod x.cls ow x.name x.desc, .selects C x y, .instanceMethod y, .initialized y.cls] : List Cond), w ∈ lw_all :=
  List.forall_mem_cons.mpr ⟨h1, List.forall_mem_cons.mpr ⟨h2, List.forall_mem_cons.mpr ⟨h3, List.forall_mem_cons.mpr ⟨h4, List.forall_mem_cons.mpr ⟨h5, fun _ h => absurd h List.not_mem_nil⟩⟩⟩⟩⟩
/-- calls whose depth and room are chosen on the way -/
def ix_callVE (f t : Nat) (Yc : YY) (n : Nat) (N : KT) (X : XT) (lo st : List Value) (h : AH) (c z : Nat) : Prop := ∃ g mc ms, g + 1 ≤ f ∧ ix_callV t Yc g mc ms n N X lo st h c z
theorem sx_callVE {Y : YY} {f : Nat} {Q : OO → AH → Prop} {pc : Nat} {N : KT} {X : XT} {Yc : YY} {n t : Nat} (k : ∀ g mc ms, g + 1 ≤ f → zz_L Y f Q pc (ix_callV t Yc g mc ms n N X)) : zz_L Y f Q pc (ix_callVE f t Yc n N X) := fun lo st h c z hi => by
  obtain ⟨g, mc, ms, hg, hi⟩ := hi
  exact k g mc ms hg lo st h c z hi
def ix_callSE (f : Nat) (Yc : YY) (n : Nat) (N : KT) (X : XT) (lo st : List Value) (h : AH) (c z : Nat) : Prop := ∃ g mc ms, g + 1 ≤ f ∧ ix_callS Yc g mc ms n N X lo st h c z
theorem sx_callSE {Y : YY} {f : Nat} {Q : OO → AH → Prop} {pc : Nat} {N : KT} {X : XT} {Yc : YY} {n : Nat} (k : ∀ g mc ms, g + 1 ≤ f → zz_L Y f Q pc (ix_callS Yc g mc ms n N X)) : zz_L Y f Q pc (ix_callSE f Yc n N X) := fun lo st h c z hi => by
  obtain ⟨g, mc, ms, hg, hi⟩ := hi
  exact k g mc ms hg lo st h c z hi
/-- never reached -/
def ix_dead (_ _ : List Value) (_ : AH) (_ _ : Nat) : Prop := False
theorem sx_dead {Y : YY} {f : Nat} {Q : OO → AH → Prop} {pc : Nat} : zz_L Y f Q pc ix_dead := fun _ _ _ _ _ hi => hi.elim
/-! kinds of arrays -/
def zz_an (t : Nat) : String := match t with
  | 64 => "[I"
  | 65 => "[J"
  | 66 => "[B"
  | 67 => "[S"
  | 68 => "[LIslandCall$Tray;"
  | 69 => "[LIslandCall$House;"
  | _ => "[LIslandCall$Step;"
theorem zz_anF {D : va_G} {s : State} (K : va_K D zz_cl (zz_tys D) s) {t : Nat} (h1 : 64 ≤ t) (h2 : t < 71) : s.vm.findClass (zz_an t) = some (D.1 t) := by
  have p : ∀ (j : Nat) (ty : FieldType) (nm : String), (zz_tys D)[j]? = some (D.1 t, ty) → (∀ C, ty ≠ .object C) → "[" ++ ty.toString = nm → s.vm.findClass nm = some (D.1 t) := by
    intro j ty nm hj hn he
    have := (K.2 j _ hj).2
    cases ty with
    | object C => exact absurd rfl (hn C)
    | _ =>
      rw [← he]
      exact this
  have o : ∀ (j : Nat) (C nm : String), (zz_tys D)[j]? = some (D.1 t, .object C) → "[" ++ (FieldType.object C).toString = nm → s.vm.findClass nm = some (D.1 t) := by
    intro j C nm hj he
    obtain ⟨_, _, -, -, -, a2⟩ := (K.2 j _ hj).2
    rw [← he]
    exact a2
  rcases (show t = 64 ∨ t = 65 ∨ t = 66 ∨ t = 67 ∨ t = 68 ∨ t = 69 ∨ t = 70 by omega) with rfl | rfl | rfl | rfl | rfl | rfl | rfl
  · exact p 0 .int _ rfl (fun _ h => by cases h) (by decide +kernel)
  · exact p 1 .long _ rfl (fun _ h => by cases h) (by decide +kernel)
  · exact p 2 .byte _ rfl (fun _ h => by cases h) (by decide +kernel)
  · exact p 3 .short _ rfl (fun _ h => by cases h) (by decide +kernel)
  · exact o 4 _ _ rfl (by decide +kernel)
  · exact o 5 _ _ rfl (by decide +kernel)
  · exact o 6 _ _ rfl (by decide +kernel)
theorem vp_cell_vm (cA : ClassId) (x : vp_A) : (vp_cell cA x).vm = .none ∧ (vp_cell cA x).cls = cA := by
  obtain ⟨n, f | f | f | f | f⟩ := x <;> exact ⟨rfl, rfl⟩
def ix_inst (t : Nat) (N : KT) (lo st : List Value) (h : AH) (c z : Nat) : Prop := match st with
  | .ref r :: st => (64 ≤ ah_T h r ∧ ah_T h r < 71) ∧ (ah_T h r = t → N lo (.int 1 :: st) h c z) ∧ (¬ ah_T h r = t → N lo (.int 0 :: st) h c z)
  | _ => False
def zz_ncB (t : Nat) : Bool := (List.range 7).all fun u => decide (64 + u = t) || zz_nc.any (fun q => q.1 == zz_an (64 + u) && q.2 == zz_an t)
theorem zz_ncB_ok {t : Nat} (h : zz_ncB t = true) : ∀ u, u < 71 → 64 ≤ u → u ≠ t → (zz_an u, zz_an t) ∈ zz_nc := by
  intro u h1 h2 h3
  have h4 := List.all_eq_true.mp h (u - 64) (List.mem_range.mpr (by omega))
  have e : 64 + (u - 64) = u := by omega
  rw [e] at h4
  rcases Bool.or_eq_true_iff.mp h4 with h5 | h5
  · exact absurd (of_decide_eq_true h5) h3
  · obtain ⟨q, hq, h6⟩ := List.any_eq_true.mp h5
    obtain ⟨h7, h8⟩ := Bool.and_eq_true_iff.mp h6
    rw [← eq_of_beq h7, ← eq_of_beq h8]
    exact hq
theorem sx_inst {Y : YY} {f : Nat} {Q : OO → AH → Prop} {pc : Nat} {N : KT} {t idx : Nat} (hl : Cond.classLink Y.1.cls idx (zz_an t) ∈ lw_all) (hn9 : zz_ncB t = true) (d : decode Y.2.1 pc = .ok (.instanceof idx, 3)) (n : zz_L Y f Q (pc + 3) N) : zz_L Y f Q pc (ix_inst t N) := by
  have hn := zz_ncB_ok hn9
  intro lo st h c z hi
  unfold ix_inst at hi
  split at hi
  · next r st =>
    intro D sa base p l e R s m args below meth cd H locs cells slots ls A
    have A' := A
    obtain ⟨F, R0, K, hb, Z, S, L, h1, h2⟩ := A
    obtain ⟨hne, q, hq, hw⟩ := zz_arr Z rfl hi.1.1
    have hF := zz_anF K.1 hi.1.1 hi.1.2
    have hcell : ∃ cell : Cell, H[r - 1]? = some cell ∧ cell.vm.isStatics = false ∧ s.vm.findClass (zz_an (ah_T h r)) = some cell.cls :=
      ⟨_, Z.1 q _ hw, by rw [(vp_cell_vm _ _).1]; rfl, by rw [(vp_cell_vm _ _).2]; exact hF⟩
    show W p l e R s m args below meth cd H locs cells slots _ (F0 m pc ls (ah_rr r :: st.map (ah_v sa)))
    rw [ah_rr_pos hne]
    by_cases ht : ah_T h r = t
    · rw [ht] at hcell
      exact va_instE F.1 F.2.1 F.2.2.2.1 (F.2.2.2.2.1 _ hl) hcell d (n _ _ _ _ _ (hi.2.1 ht) D sa base p l e R s m args below meth cd H locs cells slots ls A')
    · exact va_instNo F.1 F.2.1 F.2.2.2.1 (F.2.2.2.2.1 _ hl) (K.2.2.2.2.2.2.1 _ (hn _ hi.1.2 hi.1.1 ht)) hcell d (n _ _ _ _ _ (hi.2.2 ht) D sa base p l e R s m args below meth cd H locs cells slots ls A')
  · exact hi.elim
def ix_cast (t : Nat) (N : KT) (lo st : List Value) (h : AH) (c z : Nat) : Prop := match st with
  | .ref r :: st => ah_T h r = t ∧ N lo (.ref r :: st) h c z
  | _ => False
theorem sx_cast {Y : YY} {f : Nat} {Q : OO → AH → Prop} {pc : Nat} {N : KT} {t idx : Nat} (hl : Cond.classLink Y.1.cls idx (zz_an t) ∈ lw_all) (ht : 64 ≤ t ∧ t < 71) (d : decode Y.2.1 pc = .ok (.checkcast idx, 3)) (n : zz_L Y f Q (pc + 3) N) : zz_L Y f Q pc (ix_cast t N) := by
  intro lo st h c z hi
  unfold ix_cast at hi
  split at hi
  · next r st =>
    intro D sa base p l e R s m args below meth cd H locs cells slots ls A
    have k := n _ _ _ _ _ hi.2 D sa base p l e R s m args below meth cd H locs cells slots ls A
    obtain ⟨F, R0, K, hb, Z, S, L, h1, h2⟩ := A
    obtain ⟨hne, q, hq, hw⟩ := zz_arr Z hi.1 ht.1
    have k' : W p l e R s m args below meth cd H locs cells slots _ (F0 m (pc + 3) ls (ah_rr r :: st.map (ah_v sa))) := k
    show W p l e R s m args below meth cd H locs cells slots _ (F0 m pc ls (ah_rr r :: st.map (ah_v sa)))
    rw [ah_rr_pos hne] at k' ⊢
    exact va_castA F.1 F.2.1 F.2.2.2.1 (F.2.2.2.2.1 _ hl) Z.1 q hw (zz_anF K.1 ht.1 ht.2) d k'
  · exact hi.elim
/-- a static that holds some reference, or null -/
def ix_anyref (N : KT) (lo st : List Value) (h : AH) (c z : Nat) : Prop := ∀ r, N lo (.ref r :: st) h c z
theorem zz_anyref {Y : YY} {f : Nat} {Q : OO → AH → Prop} {pc : Nat} {N : KT} {idx : Nat} {C nm ds : String} (hk : ∀ {D : va_G} {sa : Nat → Nat} {base : Nat} {s : State}, zz_KB D sa base s s.heap → va_Zq C nm ds (zz_A base) s s.heap) (hl : Cond.fieldLink Y.1.cls idx C nm ds ∈ lw_all) (d : decode Y.2.1 pc = .ok (.getstatic idx, 3)) (n : zz_L Y f Q (pc + 3) N) : zz_L Y f Q pc (ix_anyref N) := by
  intro lo st h c z hi D sa base p l e R s m args below meth cd H locs cells slots ls A
  have A' := A
  obtain ⟨F, R0, K, hb, Z, S, L, h1, h2⟩ := A
  rcases hk K with hz | ⟨q, hz⟩
  · exact va_gets F.1 F.2.1 hz S F.2.2.2.1 (F.2.2.2.2.1 _ hl) (fun _ h => h) d (n _ _ _ _ _ (hi 0) D sa base p l e R s m args below meth cd H locs cells slots ls A')
  · exact va_gets F.1 F.2.1 hz S F.2.2.2.1 (F.2.2.2.2.1 _ hl) (fun _ h => h) d (n _ _ _ _ _ (hi (q + 1)) D sa base p l e R s m args below meth cd H locs cells slots ls A')
/-! STRING CONSTANTS: .double k is the k-th, .double (100 + k) its bytes -/
theorem zz_gets1 {Y : YY} {f : Nat} {Q : OO → AH → Prop} {pc : Nat} {N : KT} {idx : Nat} (hl : Cond.fieldLink Y.1.cls idx "java/lang/String" "COMPACT_STRINGS" "Z" ∈ lw_all) (d : decode Y.2.1 pc = .ok (.getstatic idx, 3)) (n : zz_L Y f Q (pc + 3) N) : zz_L Y f Q pc (ix_ci 1 N) := by
  intro lo st h c z hi D sa base p l e R s m args below meth cd H locs cells slots ls A
  have A' := A
  obtain ⟨F, R0, K, hb, Z, S, L, h1, h2⟩ := A
  exact va_gets F.1 F.2.1 K.2.2.2.2.2.2.2.2.2.2.2.1 S F.2.2.2.1 (F.2.2.2.2.1 _ hl) (fun _ h => h) d (n _ _ _ _ _ hi D sa base p l e R s m args below meth cd H locs cells slots ls A')
def ix_sval (N : KT) (lo st : List Value) (h : AH) (c z : Nat) : Prop := match st with
  | .double k :: st => k.toNat < zz_strN ∧ N lo (.double (UInt64.ofNat (100 + k.toNat)) :: st) h c z
  | _ => False
theorem zz_u64 {k : Nat} (h : k < 1000) : (UInt64.ofNat k).toNat = k := by
  rw [UInt64.toNat_ofNat']
  exact Nat.mod_eq_of_lt (by omega)
theorem sx_sval {Y : YY} {f : Nat} {Q : OO → AH → Prop} {pc : Nat} {N : KT} {idx : Nat} (hl : Cond.fieldLink Y.1.cls idx "java/lang/String" "value" "[B" ∈ lw_all) (d : decode Y.2.1 pc = .ok (.getfield idx, 3)) (n : zz_L Y f Q (pc + 3) N) : zz_L Y f Q pc (ix_sval N) := by
  intro lo st h c z hi
  unfold ix_sval at hi
  split at hi
  · next k st =>
    intro D sa base p l e R s m args below meth cd H locs cells slots ls A
    have kk := n _ _ _ _ _ hi.2 D sa base p l e R s m args below meth cd H locs cells slots ls A
    obtain ⟨F, R0, K, hb, Z, S, L, h1, h2⟩ := A
    have h9 := (K.2.2.2.2.2.2.2.1.1 k.toNat hi.1).2.2.1
    refine vk_getf F.1 F.2.1 h9 S F.2.2.2.1 (F.2.2.2.2.1 _ hl) (fun _ h => h) d ?_
    have e9 : ah_v sa (.double (UInt64.ofNat (100 + k.toNat))) = .ref (sa (100 + k.toNat)) := by
      have hk : k.toNat < 23 := hi.1
      show Value.ref (sa (UInt64.ofNat (100 + k.toNat)).toNat) = _
      rw [zz_u64 (by omega)]
    rw [← e9]
    exact kk
  · exact hi.elim
def ix_scod (N : KT) (lo st : List Value) (h : AH) (c z : Nat) : Prop := match st with
  | .double k :: st => k.toNat < zz_strN ∧ N lo (.int 0 :: st) h c z
  | _ => False
theorem sx_scod {Y : YY} {f : Nat} {Q : OO → AH → Prop} {pc : Nat} {N : KT} {idx : Nat} (hl : Cond.fieldLink Y.1.cls idx "java/lang/String" "coder" "B" ∈ lw_all) (d : decode Y.2.1 pc = .ok (.getfield idx, 3)) (n : zz_L Y f Q (pc + 3) N) : zz_L Y f Q pc (ix_scod N) := by
  intro lo st h c z hi
  unfold ix_scod at hi
  split at hi
  · next k st =>
    intro D sa base p l e R s m args below meth cd H locs cells slots ls A
    have kk := n _ _ _ _ _ hi.2 D sa base p l e R s m args below meth cd H locs cells slots ls A
    obtain ⟨F, R0, K, hb, Z, S, L, h1, h2⟩ := A
    exact vk_getf F.1 F.2.1 (K.2.2.2.2.2.2.2.1.1 k.toNat hi.1).2.1 S F.2.2.2.1 (F.2.2.2.2.1 _ hl) (fun _ h => h) d kk
  · exact hi.elim
def ix_sblen (N : KT) (lo st : List Value) (h : AH) (c z : Nat) : Prop := match st with
  | .double k :: st => (100 ≤ k.toNat ∧ k.toNat < 100 + zz_strN) ∧ N lo (.int (nI (zz_strL.getD (k.toNat - 100) 0)) :: st) h c z
  | _ => False
theorem zz_sb {D : va_G} {sa : Nat → Nat} {base : Nat} {s : State} {H : Heap} {k : UInt64} (K : zz_KB D sa base s H) (hk : 100 ≤ k.toNat ∧ k.toNat < 100 + zz_strN) : va_T .byte (sa k.toNat) (zz_strL.getD (k.toNat - 100) 0) (fun j => .int ((zz_strB.getD (k.toNat - 100) []).getD j 0)) (zz_A base) s H := by
  have h9 := (K.2.2.2.2.2.2.2.1.1 (k.toNat - 100) (by omega)).2.2.2
  have e : 100 + (k.toNat - 100) = k.toNat := by omega
  dsimp only at h9
  rw [e] at h9
  exact h9
theorem sx_sblen {Y : YY} {f : Nat} {Q : OO → AH → Prop} {pc : Nat} {N : KT} (d : decode Y.2.1 pc = .ok (.arraylength, 1)) (n : zz_L Y f Q (pc + 1) N) : zz_L Y f Q pc (ix_sblen N) := by
  intro lo st h c z hi
  unfold ix_sblen at hi
  split at hi
  · next k st =>
    intro D sa base p l e R s m args below meth cd H locs cells slots ls A
    have kk := n _ _ _ _ _ hi.2 D sa base p l e R s m args below meth cd H locs cells slots ls A
    obtain ⟨F, R0, K, hb, Z, S, L, h1, h2⟩ := A
    exact va_tlen F.1 F.2.1 (zz_sb K hi.1) S rfl d kk
  · exact hi.elim
def ix_sbald (N : KT) (lo st : List Value) (h : AH) (c z : Nat) : Prop := match st with
  | .int i :: .double k :: st => (100 ≤ k.toNat ∧ k.toNat < 100 + zz_strN) ∧ vp_in i (zz_strL.getD (k.toNat - 100) 0) ∧ N lo (.int ((zz_strB.getD (k.toNat - 100) []).getD i.toNatClampNeg 0) :: st) h c z
  | _ => False
theorem sx_sbald {Y : YY} {f : Nat} {Q : OO → AH → Prop} {pc : Nat} {N : KT} (d : decode Y.2.1 pc = .ok (.baload, 1)) (n : zz_L Y f Q (pc + 1) N) : zz_L Y f Q pc (ix_sbald N) := by
  intro lo st h c z hi
  unfold ix_sbald at hi
  split at hi
  · next i k st =>
    intro D sa base p l e R s m args below meth cd H locs cells slots ls A
    have kk := n _ _ _ _ _ hi.2.2 D sa base p l e R s m args below meth cd H locs cells slots ls A
    obtain ⟨F, R0, K, hb, Z, S, L, h1, h2⟩ := A
    exact va_tb F.1 F.2.1 (zz_sb K hi.1) S hi.2.1 rfl d kk
  · exact hi.elim
/-- a call on a String constant -/
def ix_callT (Yc : YY) (g n : Nat) (N : KT) (X : XT) (lo st : List Value) (h : AH) (c z : Nat) : Prop :=
  ix_take n st fun as rest => match as with
    | .double k :: _ => k.toNat < zz_strN ∧ Nat.ble (ah_sum rest) 8 = true ∧ zz_Sp Yc g 0 0 as h (ix_back N X lo rest c z)
    | _ => False
theorem sx_callT {Y : YY} {f : Nat} {Q : OO → AH → Prop} {pc : Nat} {N : KT} {X : XT} {Yc : YY} {g n idx : Nat} (hl : GoodIn lw_all (wsV Y.1.cls idx "java/lang/String" Yc.1 (zz_code Yc :: lw_all))) (hw : Yc.2.2.2.2 = []) (hd : Yc.1.cls = "java/lang/String" ∧ zz_np Yc n) (hg : g + 1 ≤ f) (hm : Yc.2.2.1 ≤ 29) (d : decode Y.2.1 pc = .ok (.invokevirtual idx, 3)) (nn : zz_L Y f Q (pc + 3) N) (xx : zz_LX Y f Q pc X) : zz_L Y f Q pc (ix_callT Yc g (n + 1) N X) := by
  obtain ⟨y, cc, maxL, ret, hh⟩ := Yc
  cases hw
  dsimp only at hm
  intro lo st h c z hi0 D sa base p l e R s m args below meth cd H locs cells slots ls A
  obtain ⟨as, rest, hlen, rfl, hi⟩ := ix_take_ok hi0
  split at hi
  · next k as =>
    obtain ⟨g0, g1, hsp⟩ := hi
    have A' := A
    obtain ⟨F, R0, K, hb, Z, S, L, h1, h2⟩ := A
    obtain ⟨fx, fb, fm, fo, fw, fr, fl, fn, ft, fe⟩ := F
    have hM := hsp l D sa base ft
    have g1' : ah_sum rest ≤ 8 := Nat.le_of_ble_eq_true g1
    have hst : ((Value.double k :: as).reverse ++ rest).map (ah_v sa) = (as.map (ah_v sa)).reverse ++ .ref (sa k.toNat) :: rest.map (ah_v sa) := by
      rw [List.map_append, List.map_reverse]
      show (Value.ref (sa k.toNat) :: as.map (ah_v sa)).reverse ++ _ = _
      simp
    refine zz_goes (rest := rest) (mc := 0) (ms := 0) (aa := (Value.ref (sa k.toNat) :: as.map (ah_v sa)).toArray) ?_ A' (Nat.zero_le _) (Nat.zero_le _) nn xx
    rw [hst]
    exact vx_runV ⟨fx, fb, fm, fo, fw⟩ hM (cwV n fw hl rfl rfl rfl hd ⟨by rw [R0.1]; exact hg, by rw [R0.2]; show 8 + (maxL + 11) + 48 * g ≤ 48 * f; omega⟩) ⟨zz_blind, vk_recv K.2.2.2.2.2.2.2.1 g0 S, fun U hU hW => zz_pre (as := Value.double k :: as) K hb Z S hU hW⟩ rfl (by rw [List.length_map]; simp at hlen; omega) L.1 rfl (lv_room (by rw [ah_sum_eq]; exact g1')) d ⟨by omega, by omega⟩
  · exact hi.elim
/-- an answer of a narrow kind -/
def ix_nreturn (ty : FieldType) (Q : OO → AH → Prop) (_ st : List Value) (h : AH) (_ _ : Nat) : Prop := match st with
  | [.int x] => narrow ty (.int x) = .int x ∧ Q (.inl (some (.int x))) h
  | _ => False
theorem sx_nreturn {Y : YY} {f : Nat} {Q : OO → AH → Prop} {pc : Nat} {ty : FieldType} (d : decode Y.2.1 pc = .ok (.ireturn, 1)) (hr : Y.2.2.2.1 = some ty) : zz_L Y f Q pc (ix_nreturn ty Q) := by
  intro lo st h c z hi
  unfold ix_nreturn at hi
  split at hi
  · intro D sa base p l e R s m args below meth cd H locs cells slots ls A
    obtain ⟨F, -, K, hb, Z, S, L, h1, h2⟩ := A
    obtain ⟨fx, fb, fm, fo, fw, fr, fl, fn, ft, fe⟩ := F
    refine W.widen (k := R.cells) (n := R.slots) (by omega) (by omega) (vx_ret ?_)
    exact W.zret fx fb (fr.trans hr) hi.1 (fun t ht _ => ⟨some (.int _), h, rfl, hi.2, by rw [ht]; exact Z, S.F ht⟩) S.2.2 d fl
  · exact hi.elim
/-! COPIES -/
def ix_copyI (N : KT) (lo st : List Value) (h : AH) (c z : Nat) : Prop := match st with
  | .int n :: .int dp :: .ref rd :: .int sp :: .ref rs :: st => ah_T h rs = 64 ∧ ah_T h rd = 64 ∧ ¬ sp < 0 ∧ ¬ dp < 0 ∧ ¬ n < 0 ∧ sp.toNatClampNeg + n.toNatClampNeg ≤ ah_N h rs ∧ dp.toNatClampNeg + n.toNatClampNeg ≤ ah_N h rd ∧ Nat.ble (ah_sum st) 8 = true ∧ N lo st (ah_rI h rd (va_cpy (ah_I h rs) (ah_I h rd) sp.toNatClampNeg dp.toNatClampNeg n.toNatClampNeg)) c z
  | _ => False
theorem sx_copyI {Y : YY} {f : Nat} {Q : OO → AH → Prop} {pc : Nat} {N : KT} {idx : Nat} (hl : Cond.methodLink Y.1.cls idx arraycopyName ∈ lw_all) (hn : Cond.native arraycopyName ∈ lw_all) (hs : Cond.static arraycopyName ∈ lw_all) (hini : Cond.initialized "java/lang/System" ∈ lw_all) (hf : 1 ≤ f) (d : decode Y.2.1 pc = .ok (.invokestatic idx, 3)) (n : zz_L Y f Q (pc + 3) N) : zz_L Y f Q pc (ix_copyI N) := by
  intro lo st h c z hi
  unfold ix_copyI at hi
  split at hi
  · next x dp rd sp rs st =>
    obtain ⟨t1, t2, g1, g2, g3, g4, g5, g6, k⟩ := hi
    intro D sa base p l e R s m args below meth cd H locs cells slots ls A
    obtain ⟨F, R0, K, hb, Z, S, L, h1, h2⟩ := A
    have F' := F
    obtain ⟨fx, fb, fm, fo, fw, fr, fl, fn, ft, fe⟩ := F
    obtain ⟨hne1, q1, hq1, hw1⟩ := zz_arr Z t1 (by omega)
    obtain ⟨hne2, q2, hq2, hw2⟩ := zz_arr Z t2 (by omega)
    have g6' : ah_sum st ≤ 8 := Nat.le_of_ble_eq_true g6
    have e9 : nativeFrameWords "java/lang/System" "arraycopy" 5 ≤ 25 := by decide +kernel
    show W p l e R s m args below meth cd H locs cells slots _ (F0 m pc ls (.int x :: .int dp :: ah_rr rd :: .int sp :: ah_rr rs :: st.map (ah_v sa)))
    rw [ah_rr_pos hne1, ah_rr_pos hne2]
    refine va_copyi fx fb (by rw [fm]; exact L.1.symm) fo (fw _ hl) (fw _ hn) (fw _ hs) (fw _ hini) K.1 Z.1 Z.2.1 S q1 q2 0 0 hw1 hw2 rfl rfl rfl g1 g2 g3 g4 g5 (fun _ _ => rfl) (by rw [R0.1]; exact hf) (by rw [ah_sum_eq, R0.2]; omega) d (fun H1 locs1 P1 D1 S1 => ?_)
    have ec : ah_cell D (ah_rI h rd (va_cpy (ah_I h rs) (ah_I h rd) sp.toNatClampNeg dp.toNatClampNeg x.toNatClampNeg)) rd = .inl (D.1 64, ah_N h rd, .inl (va_cpy (ah_I h rs) (ah_I h rd) sp.toNatClampNeg dp.toNatClampNeg x.toNatClampNeg)) := by
      rw [ah_cell_a (t := 64) (by exact t2) (by omega)]
      show Sum.inl (D.1 64, ah_N h rd, Sum.inl (ah_row (ah_I h) rd _ rd)) = _
      congr 4
      funext j
      simp [ah_row]
    exact n _ _ _ _ _ k D sa base p l e R s m args below meth cd H1 locs1 cells slots ls ⟨F', R0, K, hb, Z.set hq2 rfl rfl ah_cell_rI (by rw [ec]; exact P1) (by rw [ec]; exact D1), S1, L, h1, h2⟩
  · exact hi.elim
theorem st_any : ∀ ci, 8 ≤ ci → ci ≤ 10 → ∃ (C : String) (cT : u_T) (cN : Nat), zz_CL ci C cT cN ∧ Cond.castable C "IslandCall$Step" ∈ lw_tbl := by
  intro ci h1 h2
  rcases (show ci = 8 ∨ ci = 9 ∨ ci = 10 by omega) with rfl | rfl | rfl
  · exact ⟨_, _, _, CL10, q2114⟩
  · exact ⟨_, _, _, CL11, q2115⟩
  · exact ⟨_, _, _, CL12, q2116⟩
theorem zz_anyS {D : va_G} {sa : Nat → Nat} {base : Nat} {s : State} {h : AH} {H : Heap} (K : zz_KB D sa base s s.heap) (Z : zz_Rep D base h H) {x : Nat} (hx : ah_T h x = 9 ∨ ah_T h x = 10 ∨ ah_T h x = 11) : va_Any "IslandCall$Step" s H (x - 1) := by
  obtain ⟨ci, hci, g1, g2⟩ : ∃ ci, ah_T h x = ci + 1 ∧ 8 ≤ ci ∧ ci ≤ 10 := by
    rcases hx with e | e | e
    · exact ⟨8, e, by omega, by omega⟩
    · exact ⟨9, e, by omega, by omega⟩
    · exact ⟨10, e, by omega, by omega⟩
  obtain ⟨C, cT, cN, hCL, hcast⟩ := st_any ci g1 g2
  obtain ⟨qx, -, hwx⟩ := Z.at (r := x) (by rw [hci]; omega)
  rw [ah_cell_o (ci := ci) hci (by omega)] at hwx
  exact va_rAny K.1 Z.1 hwx hCL.1 (fun comp c0 e1 e2 => vb_asgC (K.2.2.2.1 _ _ hcast) comp c0 e1 e2)
def ix_copyQ (N : KT) (lo st : List Value) (h : AH) (c z : Nat) : Prop := match st with
  | .int n :: .int dp :: .ref rd :: .int sp :: .ref rs :: st => ah_T h rs = 70 ∧ ah_T h rd = 70 ∧ ¬ sp < 0 ∧ ¬ dp < 0 ∧ ¬ n < 0 ∧ sp.toNatClampNeg + n.toNatClampNeg ≤ ah_N h rs ∧ dp.toNatClampNeg + n.toNatClampNeg ≤ ah_N h rd ∧ (∀ i, i < n.toNatClampNeg → ah_R h rs (sp.toNatClampNeg + i) = 0 ∨ ah_T h (ah_R h rs (sp.toNatClampNeg + i)) = 9 ∨ ah_T h (ah_R h rs (sp.toNatClampNeg + i)) = 10 ∨ ah_T h (ah_R h rs (sp.toNatClampNeg + i)) = 11) ∧ Nat.ble (ah_sum st) 8 = true ∧ N lo st (ah_rR h rd (va_cpy (ah_R h rs) (ah_R h rd) sp.toNatClampNeg dp.toNatClampNeg n.toNatClampNeg)) c z
  | _ => False
theorem sx_copyQ {Y : YY} {f : Nat} {Q : OO → AH → Prop} {pc : Nat} {N : KT} {idx : Nat} (hl : Cond.methodLink Y.1.cls idx arraycopyName ∈ lw_all) (hn : Cond.native arraycopyName ∈ lw_all) (hs : Cond.static arraycopyName ∈ lw_all) (hini : Cond.initialized "java/lang/System" ∈ lw_all) (hf : 1 ≤ f) (d : decode Y.2.1 pc = .ok (.invokestatic idx, 3)) (n : zz_L Y f Q (pc + 3) N) : zz_L Y f Q pc (ix_copyQ N) := by
  intro lo st h c z hi
  unfold ix_copyQ at hi
  split at hi
  · next x dp rd sp rs st =>
    obtain ⟨t1, t2, g1, g2, g3, g4, g5, g7, g6, k⟩ := hi
    intro D sa base p l e R s m args below meth cd H locs cells slots ls A
    obtain ⟨F, R0, K, hb, Z, S, L, h1, h2⟩ := A
    have F' := F
    obtain ⟨fx, fb, fm, fo, fw, fr, fl, fn, ft, fe⟩ := F
    obtain ⟨hne1, q1, hq1, hw1⟩ := zz_arr Z t1 (by omega)
    obtain ⟨hne2, q2, hq2, hw2⟩ := zz_arr Z t2 (by omega)
    have g6' : ah_sum st ≤ 8 := Nat.le_of_ble_eq_true g6
    have e9 : nativeFrameWords "java/lang/System" "arraycopy" 5 ≤ 25 := by decide +kernel
    show W p l e R s m args below meth cd H locs cells slots _ (F0 m pc ls (.int x :: .int dp :: ah_rr rd :: .int sp :: ah_rr rs :: st.map (ah_v sa)))
    rw [ah_rr_pos hne1, ah_rr_pos hne2]
    refine va_copyM fx fb (by rw [fm]; exact L.1.symm) fo (fw _ hl) (fw _ hn) (fw _ hs) (fw _ hini) K.1 Z.1 Z.2.1 S q1 q2 6 6 (f := fun k => ah_ro (ah_R h rs k)) (g := fun k => ah_ro (ah_R h rd k)) hw1 hw2 rfl rfl g1 g2 g3 g4 g5 (fun i hi y hy => ?_) (by rw [R0.1]; exact hf) (by rw [ah_sum_eq, R0.2]; omega) d (fun H1 locs1 P1 D1 S1 => ?_)
    · rcases g7 i hi with e0 | e0
      · rw [e0] at hy
        cases hy
      · have h8 := zz_anyS K Z e0
        cases hr : ah_R h rs (sp.toNatClampNeg + i) with
        | zero => rw [hr] at hy; cases hy
        | succ w =>
          rw [hr] at hy h8
          cases hy
          exact h8
    · have ec : ah_cell D (ah_rR h rd (va_cpy (ah_R h rs) (ah_R h rd) sp.toNatClampNeg dp.toNatClampNeg x.toNatClampNeg)) rd = .inl (D.1 70, ah_N h rd, .inr (.inr (.inr (.inr (va_cpy (fun k => ah_ro (ah_R h rs k)) (fun k => ah_ro (ah_R h rd k)) sp.toNatClampNeg dp.toNatClampNeg x.toNatClampNeg))))) := by
        rw [ah_cell_a (t := 70) (by exact t2) (by omega)]
        show Sum.inl (D.1 70, ah_N h rd, Sum.inr (Sum.inr (Sum.inr (Sum.inr (fun k => ah_ro (ah_row (ah_R h) rd _ rd k)))))) = _
        congr 7
        funext j
        simp only [ah_row, if_pos, va_cpy]
        split <;> rfl
      exact n _ _ _ _ _ k D sa base p l e R s m args below meth cd H1 locs1 cells slots ls ⟨F', R0, K, hb, Z.set hq2 rfl rfl ah_cell_rR (by rw [ec]; exact P1) (by rw [ec]; exact D1), S1, L, h1, h2⟩
  · exact hi.elim
def ix_mmax (N : KT) (lo st : List Value) (h : AH) (c z : Nat) : Prop := match st with
  | .int y :: .int x :: st => Nat.ble (ah_sum st) 8 = true ∧ N lo (.int (if x < y then y else x) :: st) h c z
  | _ => False
theorem sx_mmax {Y : YY} {f : Nat} {Q : OO → AH → Prop} {pc : Nat} {N : KT} {idx : Nat} (hl : Cond.methodLink Y.1.cls idx Lib.Math.max.name ∈ lw_all) (hs : Cond.static Lib.Math.max.name ∈ lw_all) (hini : Cond.initialized "java/lang/Math" ∈ lw_all) (hcode : Cond.code Lib.Math.max.name Lib.Math.max.code 2 (some .int) ∈ lw_all) (hf : 1 ≤ f) (d : decode Y.2.1 pc = .ok (.invokestatic idx, 3)) (n : zz_L Y f Q (pc + 3) N) : zz_L Y f Q pc (ix_mmax N) := by
  intro lo st h c z hi
  unfold ix_mmax at hi
  split at hi
  · next st =>
    intro D sa base p l e R s m args below meth cd H locs cells slots ls A
    have kk := n _ _ _ _ _ hi.2 D sa base p l e R s m args below meth cd H locs cells slots ls A
    obtain ⟨F, R0, K, hb, Z, S, L, h1, h2⟩ := A
    obtain ⟨fx, fb, fm, fo, fw, fr, fl, fn, ft, fe⟩ := F
    have g1' : ah_sum st ≤ 8 := Nat.le_of_ble_eq_true hi.1
    exact va_mmax fx fb (by rw [fm]; exact L.1.symm) fo (fw _ hl) (fw _ hs) (fw _ hini) (fw _ hcode) (by rw [R0.1]; exact hf) (by rw [ah_sum_eq, R0.2]; omega) (by omega) (by omega) d kk
  · exact hi.elim
def ix_mmin (N : KT) (lo st : List Value) (h : AH) (c z : Nat) : Prop := match st with
  | .int y :: .int x :: st => Nat.ble (ah_sum st) 8 = true ∧ N lo (.int (if y < x then y else x) :: st) h c z
  | _ => False
theorem sx_mmin {Y : YY} {f : Nat} {Q : OO → AH → Prop} {pc : Nat} {N : KT} {idx : Nat} (hl : Cond.methodLink Y.1.cls idx Lib.Math.min.name ∈ lw_all) (hs : Cond.static Lib.Math.min.name ∈ lw_all) (hini : Cond.initialized "java/lang/Math" ∈ lw_all) (hcode : Cond.code Lib.Math.min.name Lib.Math.min.code 2 (some .int) ∈ lw_all) (hf : 1 ≤ f) (d : decode Y.2.1 pc = .ok (.invokestatic idx, 3)) (n : zz_L Y f Q (pc + 3) N) : zz_L Y f Q pc (ix_mmin N) := by
  intro lo st h c z hi
  unfold ix_mmin at hi
  split at hi
  · next st =>
    intro D sa base p l e R s m args below meth cd H locs cells slots ls A
    have kk := n _ _ _ _ _ hi.2 D sa base p l e R s m args below meth cd H locs cells slots ls A
    obtain ⟨F, R0, K, hb, Z, S, L, h1, h2⟩ := A
    obtain ⟨fx, fb, fm, fo, fw, fr, fl, fn, ft, fe⟩ := F
    have g1' : ah_sum st ≤ 8 := Nat.le_of_ble_eq_true hi.1
    exact va_mmin fx fb (by rw [fm]; exact L.1.symm) fo (fw _ hl) (fw _ hs) (fw _ hini) (fw _ hcode) (by rw [R0.1]; exact hf) (by rw [ah_sum_eq, R0.2]; omega) (by omega) (by omega) d kk
  · exact hi.elim
def ix_mabsL (N : KT) (lo st : List Value) (h : AH) (c z : Nat) : Prop := match st with
  | .long x :: st => Nat.ble (ah_sum st) 8 = true ∧ N lo (.long (if 0 < x then x else -x) :: st) h c z
  | _ => False
theorem sx_mabsL {Y : YY} {f : Nat} {Q : OO → AH → Prop} {pc : Nat} {N : KT} {idx : Nat} (hl : Cond.methodLink Y.1.cls idx Lib.MathLoose.abs_long.x ∈ lw_all) (hs : Cond.static Lib.MathLoose.abs_long.x ∈ lw_all) (hini : Cond.initialized "java/lang/Math" ∈ lw_all) (hcode : Cond.code Lib.MathLoose.abs_long.x Lib.MathLoose.abs_long.code 2 (some .long) ∈ lw_all) (hf : 1 ≤ f) (d : decode Y.2.1 pc = .ok (.invokestatic idx, 3)) (n : zz_L Y f Q (pc + 3) N) : zz_L Y f Q pc (ix_mabsL N) := by
  intro lo st h c z hi
  unfold ix_mabsL at hi
  split at hi
  · next st =>
    intro D sa base p l e R s m args below meth cd H locs cells slots ls A
    have kk := n _ _ _ _ _ hi.2 D sa base p l e R s m args below meth cd H locs cells slots ls A
    obtain ⟨F, R0, K, hb, Z, S, L, h1, h2⟩ := A
    obtain ⟨fx, fb, fm, fo, fw, fr, fl, fn, ft, fe⟩ := F
    have g1' : ah_sum st ≤ 8 := Nat.le_of_ble_eq_true hi.1
    exact va_mabs_long fx fb (by rw [fm]; exact L.1.symm) fo (fw _ hl) (fw _ hs) (fw _ hini) (fw _ hcode) (by rw [R0.1]; exact hf) (by rw [ah_sum_eq, R0.2]; omega) (by omega) (by omega) d kk
  · exact hi.elim
