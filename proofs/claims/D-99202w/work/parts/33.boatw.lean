set_option maxRecDepth 100000
/-! WHAT WRITES A BOAT -/
/-- ints alone are written, and in the rows of S alone -/
def zz_same (S : Nat → Prop) (h h' : AH) : Prop := ah_D h' = ah_D h ∧ ah_T h' = ah_T h ∧ ah_N h' = ah_N h ∧ ah_L h' = ah_L h ∧ ah_R h' = ah_R h ∧ ∀ x, ¬ S x → ah_I h' x = ah_I h x
theorem zz_same.rf {S : Nat → Prop} {h : AH} : zz_same S h h := ⟨rfl, rfl, rfl, rfl, rfl, fun _ _ => rfl⟩
theorem zz_same.put {S : Nat → Prop} {h h' : AH} {r k : Nat} {v : Int32} (F : zz_same S h h') (hr : S r) : zz_same S h (ah_sI h' r k v) := by
  obtain ⟨a, b, c, d, e, g⟩ := F
  refine ⟨a, b, c, d, e, fun x hx => ?_⟩
  have hne : x ≠ r := fun q => hx (q ▸ hr)
  rw [← g x hx]
  exact ah_up_ne hne
theorem zz_same.trans {S : Nat → Prop} {h h1 h2 : AH} (F : zz_same S h h1) (G : zz_same S h1 h2) : zz_same S h h2 := by
  obtain ⟨a, b, c, d, e, g⟩ := F
  obtain ⟨a', b', c', d', e', g'⟩ := G
  exact ⟨a'.trans a, b'.trans b, c'.trans c, d'.trans d, e'.trans e, fun x hx => (g' x hx).trans (g x hx)⟩
theorem zz_same.mono {S S' : Nat → Prop} {h h' : AH} (F : zz_same S h h') (hS : ∀ x, S x → S' x) : zz_same S' h h' := by
  obtain ⟨a, b, c, d, e, g⟩ := F
  exact ⟨a, b, c, d, e, fun x hx => g x (fun q => hx (hS x q))⟩
def bSetS (B : BV) (k : Nat) (v : Int32) : BV := (bO B, bP B, fun j => if j = k then v else bS B j, bA B)
def bSetA (B : BV) (k i : Nat) (v : Int32) : BV := (bO B, bP B, bS B, fun j x => if j = k ∧ x = i then v else bA B j x)
/-- a boat's rows are apart -/
def zb_D (h : AH) (b : Nat) : Prop := ∀ j k, 10 ≤ j → j < 15 → 10 ≤ k → k < 15 → ah_R h b j = ah_R h b k → j = k
/-- a boat's own cells -/
def zb_S (h : AH) (b : Nat) : Nat → Prop := fun x => x = b ∨ ∃ k, 10 ≤ k ∧ k < 15 ∧ x = ah_R h b k
theorem zb_C.arrT {h : AH} {b k : Nat} {B : BV} (C : zb_C h b B) (h1 : 10 ≤ k) (h2 : k < 15) : ah_T h (ah_R h b k) = 64 := by
  rcases Nat.lt_or_ge k 11 with g | g
  · have : k = 10 := by omega
    subst this
    exact C.2.2.2.2.1.1
  · exact (C.2.2.2.2.2 k g h2).1
theorem zb_C.arrNe {h : AH} {b k : Nat} {B : BV} (C : zb_C h b B) (h1 : 10 ≤ k) (h2 : k < 15) : ah_R h b k ≠ b := by
  intro e
  have := C.arrT h1 h2
  rw [e, C.1] at this
  exact absurd this (by decide)
theorem zb_C.setS {h : AH} {b k : Nat} {B : BV} {v : Int32} (C : zb_C h b B) (hk : k < 8) (h3 : k ≠ 3) (h4 : k ≠ 4) : zb_C (ah_sI h b k v) b (bSetS B k v) := by
  have C' := C
  obtain ⟨hT, hOP, h34, hS, ⟨u1, u2, u3⟩, hA⟩ := C'
  refine ⟨hT, hOP, ⟨?_, ?_⟩, fun j hj => ?_, ⟨u1, u2, fun i hi => ?_⟩, fun j j1 j2 => ?_⟩
  · show (if 3 = k then v else bS B 3) = _
    rw [if_neg (Ne.symm h3)]
    exact h34.1
  · show (if 4 = k then v else bS B 4) = _
    rw [if_neg (Ne.symm h4)]
    exact h34.2
  · show (if b = b ∧ j = k then v else ah_I h b j) = (if j = k then v else bS B j)
    by_cases e : j = k
    · simp [e]
    · simp [e, hS j hj]
  · rw [I_sI, if_neg (fun c => C.arrNe (by decide) (by decide) c.1)]
    exact u3 i hi
  · obtain ⟨a1, a2, a3⟩ := hA j j1 j2
    refine ⟨a1, a2, fun i hi => ?_⟩
    rw [I_sI, if_neg (fun c => C.arrNe (by omega) j2 c.1)]
    exact a3 i hi
theorem zb_C.setA {h : AH} {b k i : Nat} {B : BV} {v : Int32} (C : zb_C h b B) (hD : zb_D h b) (h1 : 10 ≤ k) (h2 : k < 15) : zb_C (ah_sI h (ah_R h b k) i v) b (bSetA B k i v) := by
  have C' := C
  obtain ⟨hT, hOP, h34, hS, ⟨u1, u2, u3⟩, hA⟩ := C'
  refine ⟨hT, hOP, h34, fun j hj => ?_, ⟨u1, u2, fun x hx => ?_⟩, fun j j1 j2 => ?_⟩
  · rw [I_sI, if_neg (fun c => C.arrNe h1 h2 c.1.symm)]
    exact hS j hj
  · show (if ah_R h b 10 = ah_R h b k ∧ x = i then v else ah_I h (ah_R h b 10) x) = (if 10 = k ∧ x = i then v else bA B 10 x)
    by_cases e : 10 = k
    · subst e
      simp [u3 x hx]
    · rw [if_neg (fun c => e (hD 10 k (by decide) (by decide) h1 h2 c.1)), if_neg (fun c => e c.1)]
      exact u3 x hx
  · obtain ⟨a1, a2, a3⟩ := hA j j1 j2
    refine ⟨a1, a2, fun x hx => ?_⟩
    show (if ah_R h b j = ah_R h b k ∧ x = i then v else ah_I h (ah_R h b j) x) = (if j = k ∧ x = i then v else bA B j x)
    by_cases e : j = k
    · subst e
      simp [a3 x hx]
    · rw [if_neg (fun c => e (hD j k (by omega) j2 h1 h2 c.1)), if_neg (fun c => e c.1)]
      exact a3 x hx
theorem zb_C.congr {h : AH} {b : Nat} {B B' : BV} (C : zb_C h b B) (h1 : bO B' = bO B) (h2 : bP B' = bP B) (h3 : ∀ k, k < 8 → bS B' k = bS B k) (h4 : ∀ i, i < bO B → bA B' 10 i = bA B 10 i) (h5 : ∀ k, 11 ≤ k → k < 15 → ∀ i, i < bP B → bA B' k i = bA B k i) : zb_C h b B' := by
  obtain ⟨hT, hOP, h34, hS, ⟨u1, u2, u3⟩, hA⟩ := C
  refine ⟨hT, by rw [h1, h2]; exact hOP, by rw [h1, h2, h3 3 (by decide), h3 4 (by decide)]; exact h34, fun k hk => by rw [h3 k hk]; exact hS k hk, ⟨u1, u2, fun i hi => ?_⟩, fun k k1 k2 => ?_⟩
  · rw [h1] at hi
    rw [h4 i hi]
    exact u3 i hi
  · obtain ⟨a1, a2, a3⟩ := hA k k1 k2
    refine ⟨a1, a2, fun i hi => ?_⟩
    rw [h2] at hi
    rw [h5 k k1 k2 i hi]
    exact a3 i hi
/-- the picture is kept where its cells are -/
theorem zb_C.same {h h' : AH} {b : Nat} {B : BV} {S : Nat → Prop} (C : zb_C h b B) (F : zz_same S h h') (hS : ∀ x, zb_S h b x → ¬ S x) : zb_C h' b B := by
  obtain ⟨hT, hOP, h34, hI, ⟨u1, u2, u3⟩, hA⟩ := C
  obtain ⟨f1, f2, f3, f4, f5, f6⟩ := F
  refine ⟨by rw [f2]; exact hT, hOP, h34, fun k hk => ?_, ⟨by rw [f2, f5]; exact u1, by rw [f3, f5]; exact u2, fun i hi => ?_⟩, fun k k1 k2 => ?_⟩
  · rw [f6 b (hS b (Or.inl rfl))]
    exact hI k hk
  · rw [f5, f6 _ (hS _ (Or.inr ⟨10, by decide, by decide, rfl⟩))]
    exact u3 i hi
  · obtain ⟨a1, a2, a3⟩ := hA k k1 k2
    refine ⟨by rw [f2, f5]; exact a1, by rw [f3, f5]; exact a2, fun i hi => ?_⟩
    rw [f5, f6 _ (hS _ (Or.inr ⟨k, by omega, k2, rfl⟩))]
    exact a3 i hi
/-! a call -/
def q_min9 (x : Int32) : Int32 := if x < 9 then x else 9
/-- who sits on behind a call: the first k of them -/
def q_sits (B : BV) : Nat → BV
  | 0 => B
  | k + 1 => if bt (bS B 6) k = true then bSetA (bSetA (q_sits B k) 11 k (q_min9 (bA (q_sits B k) 11 k + bS B 1))) 14 k (bA (q_sits B k) 14 k + 1) else q_sits B k
def q_call (B : BV) : BV :=
  let B1 := bSetS (bSetS B 6 (bS B 6 &&& (q_outBy B (bS B 7) ^^^ (-1)))) 5 (bS B 5 + 1)
  q_sits B1 (bP B)
theorem q_sits_P (B : BV) : ∀ k, bO (q_sits B k) = bO B ∧ bP (q_sits B k) = bP B ∧ bS (q_sits B k) = bS B := by
  intro k
  induction k with
  | zero => exact ⟨rfl, rfl, rfl⟩
  | succ k ih =>
    unfold q_sits
    split
    · exact ih
    · exact ih
theorem sp_call {f b : Nat} {h : AH} {Q : OO → AH → Prop} {B : BV} (C : zb_C h b B) (hD : zb_D h b) (h0 : bS B 0 = nI (bPl B)) (h1 : bPl B < 1000) (hQ : ∀ h', zz_same (zb_S h b) h h' → zb_C h' b (q_call B) → Q (.inl (some (.int (q_outBy B (bS B 7))))) h') : zz_Sp YX5_call (f + 7) 0 0 [.ref b] h Q := by
  have C' := C
  obtain ⟨hT, ⟨hO, hP⟩, ⟨h3, h4⟩, hS, -, hA⟩ := C'
  refine eX5_call (Nat.le_add_left _ _) ?_
  simp only [ix_aald68, ix_aald69, ix_aald70, ix_aast68, ix_aast69, ix_aast70, ix_alen, ix_aload, ix_anyref, ix_areturn, ix_astore, ix_athrow, ix_back, ix_bald, ix_bast, ix_callS, ix_callSE, ix_callT, ix_callV, ix_callVE, ix_cast, ix_ci, ix_cl, ix_copyI, ix_copyQ, ix_cs, ix_dead, ix_dup, ix_dup2, ix_getI, ix_getL, ix_getR, ix_i2b, ix_i2c, ix_i2l, ix_i2s, ix_iadd, ix_iald, ix_iand, ix_iast, ix_icmp_eq, ix_icmp_ge, ix_icmp_gt, ix_icmp_le, ix_icmp_lt, ix_icmp_ne, ix_idiv, ix_if_eq, ix_if_ge, ix_if_gt, ix_if_le, ix_if_lt, ix_if_ne, ix_ifnonnull, ix_ifnull, ix_iinc, ix_iload, ix_imul, ix_ineg, ix_inst, ix_ior, ix_irem, ix_ireturn, ix_ishl, ix_ishr, ix_istore, ix_isub, ix_iushr, ix_ixor, ix_l2i, ix_ladd, ix_lald, ix_land, ix_last, ix_lcmp, ix_ldiv, ix_lload, ix_lmul, ix_lneg, ix_lor, ix_lrem, ix_lreturn, ix_lshl, ix_lshr, ix_lstore, ix_lsub, ix_lushr, ix_mabsL, ix_mmax, ix_mmin, ix_new, ix_newa, ix_nreturn, ix_null, ix_objInit, ix_or2, ix_pop, ix_putI, ix_putL, ix_putR, ix_putZ, ix_return, ix_sald, ix_sast, ix_sbald, ix_sblen, ix_scod, ix_sval, ix_sw, ix_switch, ix_zreturn, ix_out, cl_0, cl_1, cl_2, cl_3, cl_4, cl_5, cl_6, cl_7, cl_8, vm_0, vm_1, vm_2, vm_3, vm_4, vm_5, vm_6, vm_7, vm_8, ↓reduceIte, eq_self, Int32.reduceLT, Int32.reduceLE, i_1_0, i_0_1, i_m1_0, i_0_m1, i_2_0, i_2_1, i_1_2, i_0_2, i_3_0, i_3_1, i_3_2, i_4_0, i_4_1, i_4_2, i_4_3, i_5_0, i_5_1, i_5_2, i_5_3, i_5_4, i_6_0, i_6_1, i_6_2, i_6_3, i_6_4, i_6_5, Int64.reduceLT, Int64.reduceLE, Int32.le_refl, ix_take, ix_back, ah_st1, ah_st2, ah_kl, ah_sum, ah_cat, List.getElem?_cons_zero, List.getElem?_cons_succ, List.set_cons_zero, List.set_cons_succ, Nat.ble_eq, Nat.reduceLeDiff, Nat.reduceAdd, Nat.reduceSub, Nat.le_refl, Nat.zero_le, Nat.sub_zero, Nat.add_zero, Nat.zero_add, true_and, and_true, ne_eq, not_true_eq_false, not_false_eq_true, forall_const, true_imp_iff, false_imp_iff, true_or, or_true, or_self, false_or, or_false, not_false_iff, reduceCtorEq, Option.some.injEq, Nat.reduceEqDiff, T_sI, N_sI, L_sI, R_sI, D_sI, T_sL, N_sL, I_sL, R_sL, T_sR, N_sR, I_sR, L_sR, T_rI, N_rI, L_rI, R_rI, hT, hS 7 (by decide)]
  refine sp_outBy C h0 h1 ?_
  simp only [ix_aald68, ix_aald69, ix_aald70, ix_aast68, ix_aast69, ix_aast70, ix_alen, ix_aload, ix_anyref, ix_areturn, ix_astore, ix_athrow, ix_back, ix_bald, ix_bast, ix_callS, ix_callSE, ix_callT, ix_callV, ix_callVE, ix_cast, ix_ci, ix_cl, ix_copyI, ix_copyQ, ix_cs, ix_dead, ix_dup, ix_dup2, ix_getI, ix_getL, ix_getR, ix_i2b, ix_i2c, ix_i2l, ix_i2s, ix_iadd, ix_iald, ix_iand, ix_iast, ix_icmp_eq, ix_icmp_ge, ix_icmp_gt, ix_icmp_le, ix_icmp_lt, ix_icmp_ne, ix_idiv, ix_if_eq, ix_if_ge, ix_if_gt, ix_if_le, ix_if_lt, ix_if_ne, ix_ifnonnull, ix_ifnull, ix_iinc, ix_iload, ix_imul, ix_ineg, ix_inst, ix_ior, ix_irem, ix_ireturn, ix_ishl, ix_ishr, ix_istore, ix_isub, ix_iushr, ix_ixor, ix_l2i, ix_ladd, ix_lald, ix_land, ix_last, ix_lcmp, ix_ldiv, ix_lload, ix_lmul, ix_lneg, ix_lor, ix_lrem, ix_lreturn, ix_lshl, ix_lshr, ix_lstore, ix_lsub, ix_lushr, ix_mabsL, ix_mmax, ix_mmin, ix_new, ix_newa, ix_nreturn, ix_null, ix_objInit, ix_or2, ix_pop, ix_putI, ix_putL, ix_putR, ix_putZ, ix_return, ix_sald, ix_sast, ix_sbald, ix_sblen, ix_scod, ix_sval, ix_sw, ix_switch, ix_zreturn, ix_out, cl_0, cl_1, cl_2, cl_3, cl_4, cl_5, cl_6, cl_7, cl_8, vm_0, vm_1, vm_2, vm_3, vm_4, vm_5, vm_6, vm_7, vm_8, ↓reduceIte, eq_self, Int32.reduceLT, Int32.reduceLE, i_1_0, i_0_1, i_m1_0, i_0_m1, i_2_0, i_2_1, i_1_2, i_0_2, i_3_0, i_3_1, i_3_2, i_4_0, i_4_1, i_4_2, i_4_3, i_5_0, i_5_1, i_5_2, i_5_3, i_5_4, i_6_0, i_6_1, i_6_2, i_6_3, i_6_4, i_6_5, Int64.reduceLT, Int64.reduceLE, Int32.le_refl, ix_take, ix_back, ah_st1, ah_st2, ah_kl, ah_sum, ah_cat, List.getElem?_cons_zero, List.getElem?_cons_succ, List.set_cons_zero, List.set_cons_succ, Nat.ble_eq, Nat.reduceLeDiff, Nat.reduceAdd, Nat.reduceSub, Nat.le_refl, Nat.zero_le, Nat.sub_zero, Nat.add_zero, Nat.zero_add, true_and, and_true, ne_eq, not_true_eq_false, not_false_eq_true, forall_const, true_imp_iff, false_imp_iff, true_or, or_true, or_self, false_or, or_false, not_false_iff, reduceCtorEq, Option.some.injEq, Nat.reduceEqDiff, T_sI, N_sI, L_sI, R_sI, D_sI, T_sL, N_sL, I_sL, R_sL, T_sR, N_sR, I_sR, L_sR, T_rI, N_rI, L_rI, R_rI, hT, I_sI, and_self, hS 6 (by decide), hS 5 (by decide)]
  have hB1 : ∀ j, j < 8 → j ≠ 5 → j ≠ 6 → bS (bSetS (bSetS B 6 (bS B 6 &&& (q_outBy B (bS B 7) ^^^ (-1)))) 5 (bS B 5 + 1)) j = bS B j := fun j _ h5 h6 => by
    show (if j = 5 then _ else if j = 6 then _ else bS B j) = _
    rw [if_neg h5, if_neg h6]
  have F0 : zz_same (zb_S h b) h (ah_sI (ah_sI (ah_sI h b 15 (nI (q_many B (bS B 7) (bPl B) 0))) b 6 (bS B 6 &&& (q_outBy B (bS B 7) ^^^ (-1)))) b 5 (bS B 5 + 1)) := ((zz_same.rf.put (Or.inl rfl)).put (Or.inl rfl)).put (Or.inl rfl)
  have C0 := (C.s15 (v := nI (q_many B (bS B 7) (bPl B) 0))).setS (k := 6) (v := bS B 6 &&& (q_outBy B (bS B 7) ^^^ (-1))) (by decide) (by decide) (by decide) |>.setS (k := 5) (v := bS B 5 + 1) (by decide) (by decide) (by decide)
  generalize hh0 : ah_sI (ah_sI (ah_sI h b 15 (nI (q_many B (bS B 7) (bPl B) 0))) b 6 (bS B 6 &&& (q_outBy B (bS B 7) ^^^ (-1)))) b 5 (bS B 5 + 1) = h0' at F0 C0 ⊢
  generalize hB0 : bSetS (bSetS B 6 (bS B 6 &&& (q_outBy B (bS B 7) ^^^ (-1)))) 5 (bS B 5 + 1) = B1 at C0 hB1
  have hq : q_call B = q_sits B1 (bP B) := by rw [← hB0]; rfl
  have hP1 : bP B1 = bP B := by rw [← hB0]; rfl
  have key := loop_up0 (P := fun k => ∀ h', zz_same (zb_S h b) h h' → zb_C h' b (q_sits B1 k) → zz_G YX5_call (f + 7) Q 33 [.ref b, .int (q_outBy B (bS B 7)), .int (nI k)] [] h' 0 0) (bP B) ?_ ?_
  · have := key h0' F0 C0
    simpa [nI_0] using this
  · intro h' F' C'
    have s4 := C'.2.2.2.1 4 (by decide)
    rw [(q_sits_P B1 _).2.2, hB1 4 (by decide) (by decide) (by decide), h4] at s4
    refine bX5_call_33 (Nat.le_add_left _ _) _ _ _ _ _ ?_
    simp only [ix_aald68, ix_aald69, ix_aald70, ix_aast68, ix_aast69, ix_aast70, ix_alen, ix_aload, ix_anyref, ix_areturn, ix_astore, ix_athrow, ix_back, ix_bald, ix_bast, ix_callS, ix_callSE, ix_callT, ix_callV, ix_callVE, ix_cast, ix_ci, ix_cl, ix_copyI, ix_copyQ, ix_cs, ix_dead, ix_dup, ix_dup2, ix_getI, ix_getL, ix_getR, ix_i2b, ix_i2c, ix_i2l, ix_i2s, ix_iadd, ix_iald, ix_iand, ix_iast, ix_icmp_eq, ix_icmp_ge, ix_icmp_gt, ix_icmp_le, ix_icmp_lt, ix_icmp_ne, ix_idiv, ix_if_eq, ix_if_ge, ix_if_gt, ix_if_le, ix_if_lt, ix_if_ne, ix_ifnonnull, ix_ifnull, ix_iinc, ix_iload, ix_imul, ix_ineg, ix_inst, ix_ior, ix_irem, ix_ireturn, ix_ishl, ix_ishr, ix_istore, ix_isub, ix_iushr, ix_ixor, ix_l2i, ix_ladd, ix_lald, ix_land, ix_last, ix_lcmp, ix_ldiv, ix_lload, ix_lmul, ix_lneg, ix_lor, ix_lrem, ix_lreturn, ix_lshl, ix_lshr, ix_lstore, ix_lsub, ix_lushr, ix_mabsL, ix_mmax, ix_mmin, ix_new, ix_newa, ix_nreturn, ix_null, ix_objInit, ix_or2, ix_pop, ix_putI, ix_putL, ix_putR, ix_putZ, ix_return, ix_sald, ix_sast, ix_sbald, ix_sblen, ix_scod, ix_sval, ix_sw, ix_switch, ix_zreturn, ix_out, cl_0, cl_1, cl_2, cl_3, cl_4, cl_5, cl_6, cl_7, cl_8, vm_0, vm_1, vm_2, vm_3, vm_4, vm_5, vm_6, vm_7, vm_8, ↓reduceIte, eq_self, Int32.reduceLT, Int32.reduceLE, i_1_0, i_0_1, i_m1_0, i_0_m1, i_2_0, i_2_1, i_1_2, i_0_2, i_3_0, i_3_1, i_3_2, i_4_0, i_4_1, i_4_2, i_4_3, i_5_0, i_5_1, i_5_2, i_5_3, i_5_4, i_6_0, i_6_1, i_6_2, i_6_3, i_6_4, i_6_5, Int64.reduceLT, Int64.reduceLE, Int32.le_refl, ix_take, ix_back, ah_st1, ah_st2, ah_kl, ah_sum, ah_cat, List.getElem?_cons_zero, List.getElem?_cons_succ, List.set_cons_zero, List.set_cons_succ, Nat.ble_eq, Nat.reduceLeDiff, Nat.reduceAdd, Nat.reduceSub, Nat.le_refl, Nat.zero_le, Nat.sub_zero, Nat.add_zero, Nat.zero_add, true_and, and_true, ne_eq, not_true_eq_false, not_false_eq_true, forall_const, true_imp_iff, false_imp_iff, true_or, or_true, or_self, false_or, or_false, not_false_iff, reduceCtorEq, Option.some.injEq, Nat.reduceEqDiff, T_sI, N_sI, L_sI, R_sI, D_sI, T_sL, N_sL, I_sL, R_sL, T_sR, N_sR, I_sR, L_sR, T_rI, N_rI, L_rI, R_rI, C'.1, s4]
    exact hQ h' F' (by rw [hq]; exact C')
  · intro k hk ih h' F' C'
    have hlt : ¬ nI (bP B) ≤ nI k := nI_ge hk (by omega)
    have j1 : vp_in (nI k) 8 := vp_in_nI (by omega) (by decide)
    have j2 : (nI k).toNatClampNeg = k := nI_clamp (by omega)
    have hD' : zb_D h' b := fun j1 j2 a1 a2 a3 a4 e => hD j1 j2 a1 a2 a3 a4 (by rw [← F'.2.2.2.2.1]; exact e)
    have s4 := C'.2.2.2.1 4 (by decide)
    rw [(q_sits_P B1 _).2.2, hB1 4 (by decide) (by decide) (by decide), h4] at s4
    have s6 := C'.2.2.2.1 6 (by decide)
    have s1 := C'.2.2.2.1 1 (by decide)
    rw [(q_sits_P B1 _).2.2] at s6 s1
    have hkP : k < bP (q_sits B1 k) := by rw [(q_sits_P B1 _).2.1, hP1]; exact hk
    obtain ⟨a1, a2, a3⟩ := C'.2.2.2.2.2 11 (by decide) (by decide)
    obtain ⟨b1, b2, b3⟩ := C'.2.2.2.2.2 14 (by decide) (by decide)
    have hne : ah_R h' b 14 ≠ ah_R h' b 11 := fun e => absurd (hD' 14 11 (by decide) (by decide) (by decide) (by decide) e) (by decide)
    have hb11 : b ≠ ah_R h' b 11 := fun e => C'.arrNe (k := 11) (by decide) (by decide) e.symm
    refine bX5_call_33 (Nat.le_add_left _ _) _ _ _ _ _ ?_
    simp only [ix_aald68, ix_aald69, ix_aald70, ix_aast68, ix_aast69, ix_aast70, ix_alen, ix_aload, ix_anyref, ix_areturn, ix_astore, ix_athrow, ix_back, ix_bald, ix_bast, ix_callS, ix_callSE, ix_callT, ix_callV, ix_callVE, ix_cast, ix_ci, ix_cl, ix_copyI, ix_copyQ, ix_cs, ix_dead, ix_dup, ix_dup2, ix_getI, ix_getL, ix_getR, ix_i2b, ix_i2c, ix_i2l, ix_i2s, ix_iadd, ix_iald, ix_iand, ix_iast, ix_icmp_eq, ix_icmp_ge, ix_icmp_gt, ix_icmp_le, ix_icmp_lt, ix_icmp_ne, ix_idiv, ix_if_eq, ix_if_ge, ix_if_gt, ix_if_le, ix_if_lt, ix_if_ne, ix_ifnonnull, ix_ifnull, ix_iinc, ix_iload, ix_imul, ix_ineg, ix_inst, ix_ior, ix_irem, ix_ireturn, ix_ishl, ix_ishr, ix_istore, ix_isub, ix_iushr, ix_ixor, ix_l2i, ix_ladd, ix_lald, ix_land, ix_last, ix_lcmp, ix_ldiv, ix_lload, ix_lmul, ix_lneg, ix_lor, ix_lrem, ix_lreturn, ix_lshl, ix_lshr, ix_lstore, ix_lsub, ix_lushr, ix_mabsL, ix_mmax, ix_mmin, ix_new, ix_newa, ix_nreturn, ix_null, ix_objInit, ix_or2, ix_pop, ix_putI, ix_putL, ix_putR, ix_putZ, ix_return, ix_sald, ix_sast, ix_sbald, ix_sblen, ix_scod, ix_sval, ix_sw, ix_switch, ix_zreturn, ix_out, cl_0, cl_1, cl_2, cl_3, cl_4, cl_5, cl_6, cl_7, cl_8, vm_0, vm_1, vm_2, vm_3, vm_4, vm_5, vm_6, vm_7, vm_8, ↓reduceIte, eq_self, Int32.reduceLT, Int32.reduceLE, i_1_0, i_0_1, i_m1_0, i_0_m1, i_2_0, i_2_1, i_1_2, i_0_2, i_3_0, i_3_1, i_3_2, i_4_0, i_4_1, i_4_2, i_4_3, i_5_0, i_5_1, i_5_2, i_5_3, i_5_4, i_6_0, i_6_1, i_6_2, i_6_3, i_6_4, i_6_5, Int64.reduceLT, Int64.reduceLE, Int32.le_refl, ix_take, ix_back, ah_st1, ah_st2, ah_kl, ah_sum, ah_cat, List.getElem?_cons_zero, List.getElem?_cons_succ, List.set_cons_zero, List.set_cons_succ, Nat.ble_eq, Nat.reduceLeDiff, Nat.reduceAdd, Nat.reduceSub, Nat.le_refl, Nat.zero_le, Nat.sub_zero, Nat.add_zero, Nat.zero_add, true_and, and_true, ne_eq, not_true_eq_false, not_false_eq_true, forall_const, true_imp_iff, false_imp_iff, true_or, or_true, or_self, false_or, or_false, not_false_iff, reduceCtorEq, Option.some.injEq, Nat.reduceEqDiff, T_sI, N_sI, L_sI, R_sI, D_sI, T_sL, N_sL, I_sL, R_sL, T_sR, N_sR, I_sR, L_sR, T_rI, N_rI, L_rI, R_rI, C'.1, s4, hlt, s6]
    refine sp_has (by omega) (fun c1 => ?_) (fun c1 => ?_)
    · simp only [ix_aald68, ix_aald69, ix_aald70, ix_aast68, ix_aast69, ix_aast70, ix_alen, ix_aload, ix_anyref, ix_areturn, ix_astore, ix_athrow, ix_back, ix_bald, ix_bast, ix_callS, ix_callSE, ix_callT, ix_callV, ix_callVE, ix_cast, ix_ci, ix_cl, ix_copyI, ix_copyQ, ix_cs, ix_dead, ix_dup, ix_dup2, ix_getI, ix_getL, ix_getR, ix_i2b, ix_i2c, ix_i2l, ix_i2s, ix_iadd, ix_iald, ix_iand, ix_iast, ix_icmp_eq, ix_icmp_ge, ix_icmp_gt, ix_icmp_le, ix_icmp_lt, ix_icmp_ne, ix_idiv, ix_if_eq, ix_if_ge, ix_if_gt, ix_if_le, ix_if_lt, ix_if_ne, ix_ifnonnull, ix_ifnull, ix_iinc, ix_iload, ix_imul, ix_ineg, ix_inst, ix_ior, ix_irem, ix_ireturn, ix_ishl, ix_ishr, ix_istore, ix_isub, ix_iushr, ix_ixor, ix_l2i, ix_ladd, ix_lald, ix_land, ix_last, ix_lcmp, ix_ldiv, ix_lload, ix_lmul, ix_lneg, ix_lor, ix_lrem, ix_lreturn, ix_lshl, ix_lshr, ix_lstore, ix_lsub, ix_lushr, ix_mabsL, ix_mmax, ix_mmin, ix_new, ix_newa, ix_nreturn, ix_null, ix_objInit, ix_or2, ix_pop, ix_putI, ix_putL, ix_putR, ix_putZ, ix_return, ix_sald, ix_sast, ix_sbald, ix_sblen, ix_scod, ix_sval, ix_sw, ix_switch, ix_zreturn, ix_out, cl_0, cl_1, cl_2, cl_3, cl_4, cl_5, cl_6, cl_7, cl_8, vm_0, vm_1, vm_2, vm_3, vm_4, vm_5, vm_6, vm_7, vm_8, ↓reduceIte, eq_self, Int32.reduceLT, Int32.reduceLE, i_1_0, i_0_1, i_m1_0, i_0_m1, i_2_0, i_2_1, i_1_2, i_0_2, i_3_0, i_3_1, i_3_2, i_4_0, i_4_1, i_4_2, i_4_3, i_5_0, i_5_1, i_5_2, i_5_3, i_5_4, i_6_0, i_6_1, i_6_2, i_6_3, i_6_4, i_6_5, Int64.reduceLT, Int64.reduceLE, Int32.le_refl, ix_take, ix_back, ah_st1, ah_st2, ah_kl, ah_sum, ah_cat, List.getElem?_cons_zero, List.getElem?_cons_succ, List.set_cons_zero, List.set_cons_succ, Nat.ble_eq, Nat.reduceLeDiff, Nat.reduceAdd, Nat.reduceSub, Nat.le_refl, Nat.zero_le, Nat.sub_zero, Nat.add_zero, Nat.zero_add, true_and, and_true, ne_eq, not_true_eq_false, not_false_eq_true, forall_const, true_imp_iff, false_imp_iff, true_or, or_true, or_self, false_or, or_false, not_false_iff, reduceCtorEq, Option.some.injEq, Nat.reduceEqDiff, T_sI, N_sI, L_sI, R_sI, D_sI, T_sL, N_sL, I_sL, R_sL, T_sR, N_sR, I_sR, L_sR, T_rI, N_rI, L_rI, R_rI, C'.1, a1, a2, b1, b2, j1, j2, s1, a3 k hkP, b3 k hkP, nI_1, I_sI, hne, hb11, false_and]
      have e1 : q_sits B1 (k + 1) = bSetA (bSetA (q_sits B1 k) 11 k (q_min9 (bA (q_sits B1 k) 11 k + bS B1 1))) 14 k (bA (q_sits B1 k) 14 k + 1) := by
        show (if _ then _ else _) = _
        rw [if_pos c1]
      refine ih _ ?_ ?_
      · refine (F'.put ?_).put ?_
        · exact Or.inr ⟨11, by decide, by decide, by rw [← F'.2.2.2.2.1]⟩
        · exact Or.inr ⟨14, by decide, by decide, by rw [← F'.2.2.2.2.1]⟩
      · rw [e1]
        exact (C'.setA hD' (k := 11) (by decide) (by decide)).setA (h := ah_sI h' (ah_R h' b 11) k _) hD' (k := 14) (by decide) (by decide)
    · simp only [ix_aald68, ix_aald69, ix_aald70, ix_aast68, ix_aast69, ix_aast70, ix_alen, ix_aload, ix_anyref, ix_areturn, ix_astore, ix_athrow, ix_back, ix_bald, ix_bast, ix_callS, ix_callSE, ix_callT, ix_callV, ix_callVE, ix_cast, ix_ci, ix_cl, ix_copyI, ix_copyQ, ix_cs, ix_dead, ix_dup, ix_dup2, ix_getI, ix_getL, ix_getR, ix_i2b, ix_i2c, ix_i2l, ix_i2s, ix_iadd, ix_iald, ix_iand, ix_iast, ix_icmp_eq, ix_icmp_ge, ix_icmp_gt, ix_icmp_le, ix_icmp_lt, ix_icmp_ne, ix_idiv, ix_if_eq, ix_if_ge, ix_if_gt, ix_if_le, ix_if_lt, ix_if_ne, ix_ifnonnull, ix_ifnull, ix_iinc, ix_iload, ix_imul, ix_ineg, ix_inst, ix_ior, ix_irem, ix_ireturn, ix_ishl, ix_ishr, ix_istore, ix_isub, ix_iushr, ix_ixor, ix_l2i, ix_ladd, ix_lald, ix_land, ix_last, ix_lcmp, ix_ldiv, ix_lload, ix_lmul, ix_lneg, ix_lor, ix_lrem, ix_lreturn, ix_lshl, ix_lshr, ix_lstore, ix_lsub, ix_lushr, ix_mabsL, ix_mmax, ix_mmin, ix_new, ix_newa, ix_nreturn, ix_null, ix_objInit, ix_or2, ix_pop, ix_putI, ix_putL, ix_putR, ix_putZ, ix_return, ix_sald, ix_sast, ix_sbald, ix_sblen, ix_scod, ix_sval, ix_sw, ix_switch, ix_zreturn, ix_out, cl_0, cl_1, cl_2, cl_3, cl_4, cl_5, cl_6, cl_7, cl_8, vm_0, vm_1, vm_2, vm_3, vm_4, vm_5, vm_6, vm_7, vm_8, ↓reduceIte, eq_self, Int32.reduceLT, Int32.reduceLE, i_1_0, i_0_1, i_m1_0, i_0_m1, i_2_0, i_2_1, i_1_2, i_0_2, i_3_0, i_3_1, i_3_2, i_4_0, i_4_1, i_4_2, i_4_3, i_5_0, i_5_1, i_5_2, i_5_3, i_5_4, i_6_0, i_6_1, i_6_2, i_6_3, i_6_4, i_6_5, Int64.reduceLT, Int64.reduceLE, Int32.le_refl, ix_take, ix_back, ah_st1, ah_st2, ah_kl, ah_sum, ah_cat, List.getElem?_cons_zero, List.getElem?_cons_succ, List.set_cons_zero, List.set_cons_succ, Nat.ble_eq, Nat.reduceLeDiff, Nat.reduceAdd, Nat.reduceSub, Nat.le_refl, Nat.zero_le, Nat.sub_zero, Nat.add_zero, Nat.zero_add, true_and, and_true, ne_eq, not_true_eq_false, not_false_eq_true, forall_const, true_imp_iff, false_imp_iff, true_or, or_true, or_self, false_or, or_false, not_false_iff, reduceCtorEq, Option.some.injEq, Nat.reduceEqDiff, T_sI, N_sI, L_sI, R_sI, D_sI, T_sL, N_sL, I_sL, R_sL, T_sR, N_sR, I_sR, L_sR, T_rI, N_rI, L_rI, R_rI, nI_1]
      have e1 : q_sits B1 (k + 1) = q_sits B1 k := by
        show (if _ then _ else _) = _
        rw [if_neg (by rw [c1]; decide)]
      exact ih h' F' (by rw [e1]; exact C')
