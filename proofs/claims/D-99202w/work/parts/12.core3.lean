set_option maxRecDepth 100000
/-! SINGLE INSTRUCTIONS -/
theorem zz_pure {Y : YY} {f : Nat} {Q : OO → AH → Prop} {pc pc' : Nat} {lo st st' : List Value} {h : AH} {c z : Nat}
    (row : ∀ {p : Program} {l : Launch} {e : Env} {R : Room} {s : State} {m : MethodId} {args : Array Value} {below : List Frame} {meth : Method} {cd : Code} {H : Heap} {locs : List Loc} {cells slots : Nat} {QQ : State → Prop} {ls : Array Slot} (sa : Nat → Nat), p.tables.exec = Jvm.exec → cd.code = Y.2.1 → lv_has ls Y.2.2.1 (ah_lo sa 0 lo) → s.vm.findClass Y.1.cls = some m.cls → (∀ w ∈ lw_all, w.before args s = true) →
      W p l e R s m args below meth cd H locs cells slots QQ (F0 m pc' ls (st'.map (ah_v sa))) → W p l e R s m args below meth cd H locs cells slots QQ (F0 m pc ls (st.map (ah_v sa))))
    (k : zz_G Y f Q pc' lo st' h c z) : zz_G Y f Q pc lo st h c z := by
  intro D sa base p l e R s m args below meth cd H locs cells slots ls A
  exact row sa A.1.1 A.1.2.1 A.2.2.2.2.2.2.1 A.1.2.2.2.1 A.1.2.2.2.2.1 (k D sa base p l e R s m args below meth cd H locs cells slots ls A)
theorem zz_store {Y : YY} {f : Nat} {Q : OO → AH → Prop} {pc pc' : Nat} {lo lo' st st' : List Value} {h : AH} {c z : Nat}
    (row : ∀ {p : Program} {l : Launch} {e : Env} {R : Room} {s : State} {m : MethodId} {args : Array Value} {below : List Frame} {meth : Method} {cd : Code} {H : Heap} {locs : List Loc} {cells slots : Nat} {QQ : State → Prop} {ls : Array Slot} (sa : Nat → Nat), p.tables.exec = Jvm.exec → cd.code = Y.2.1 → lv_has ls Y.2.2.1 (ah_lo sa 0 lo) →
      (∀ ls' : Array Slot, lv_has ls' Y.2.2.1 (ah_lo sa 0 lo') → W p l e R s m args below meth cd H locs cells slots QQ (F0 m pc' ls' (st'.map (ah_v sa)))) → W p l e R s m args below meth cd H locs cells slots QQ (F0 m pc ls (st.map (ah_v sa))))
    (k : zz_G Y f Q pc' lo' st' h c z) : zz_G Y f Q pc lo st h c z := by
  intro D sa base p l e R s m args below meth cd H locs cells slots ls A
  obtain ⟨F, r, K, b, Z, S, L, h1, h2⟩ := A
  exact row sa F.1 F.2.1 L (fun ls' L' => k D sa base p l e R s m args below meth cd H locs cells slots ls' ⟨F, r, K, b, Z, S, L', h1, h2⟩)
def ix_ci (x : Int32) (N : KT) (lo st : List Value) (h : AH) (c z : Nat) : Prop := N lo (.int x :: st) h c z
def ix_cl (x : Int64) (N : KT) (lo st : List Value) (h : AH) (c z : Nat) : Prop := N lo (.long x :: st) h c z
def ix_cs (k : Nat) (N : KT) (lo st : List Value) (h : AH) (c z : Nat) : Prop := N lo (.double (UInt64.ofNat k) :: st) h c z
def ix_null (N : KT) (lo st : List Value) (h : AH) (c z : Nat) : Prop := N lo (.ref 0 :: st) h c z
theorem sx_iconst {Y : YY} {f : Nat} {Q : OO → AH → Prop} {pc : Nat} {N : KT} {n : Int} {x : Int32} (d : decode Y.2.1 pc = .ok (.iconst n, 1)) (hv : Int32.ofInt n = x) (n : zz_L Y f Q (pc + 1) N) : zz_L Y f Q pc (ix_ci x N) := fun _ _ _ _ _ hi => zz_pure (fun _ hx hb _ _ _ k => lv_iconst hx hb d hv k) (n _ _ _ _ _ hi)
theorem sx_bipush {Y : YY} {f : Nat} {Q : OO → AH → Prop} {pc : Nat} {N : KT} {n : Int} {x : Int32} (d : decode Y.2.1 pc = .ok (.bipush n, 2)) (hv : (Int8.ofInt n).toInt32 = x) (n : zz_L Y f Q (pc + 2) N) : zz_L Y f Q pc (ix_ci x N) := fun _ _ _ _ _ hi => zz_pure (fun _ hx hb _ _ _ k => lv_bipush hx hb d hv k) (n _ _ _ _ _ hi)
theorem sx_sipush {Y : YY} {f : Nat} {Q : OO → AH → Prop} {pc : Nat} {N : KT} {n : Int} {x : Int32} (d : decode Y.2.1 pc = .ok (.sipush n, 3)) (hv : (Int16.ofInt n).toInt32 = x) (n : zz_L Y f Q (pc + 3) N) : zz_L Y f Q pc (ix_ci x N) := fun _ _ _ _ _ hi => zz_pure (fun _ hx hb _ _ _ k => lv_sipush hx hb d hv k) (n _ _ _ _ _ hi)
theorem sx_lconst {Y : YY} {f : Nat} {Q : OO → AH → Prop} {pc : Nat} {N : KT} {n : Fin 2} {x : Int64} (d : decode Y.2.1 pc = .ok (.lconst n, 1)) (hv : Int64.ofNat (n : Nat) = x) (n : zz_L Y f Q (pc + 1) N) : zz_L Y f Q pc (ix_cl x N) := fun _ _ _ _ _ hi => zz_pure (fun _ hx hb _ _ _ k => lv_lconst hx hb d hv k) (n _ _ _ _ _ hi)
theorem sx_null {Y : YY} {f : Nat} {Q : OO → AH → Prop} {pc : Nat} {N : KT} (d : decode Y.2.1 pc = .ok (.aconst_null, 1)) (n : zz_L Y f Q (pc + 1) N) : zz_L Y f Q pc (ix_null N) := fun _ _ _ _ _ hi => zz_pure (fun _ hx hb _ _ _ k => lv_null hx hb d k) (n _ _ _ _ _ hi)
theorem sx_ldc {Y : YY} {f : Nat} {Q : OO → AH → Prop} {pc : Nat} {N : KT} {j : Nat} {x : Int32} (d : decode Y.2.1 pc = .ok (.ldc j, 2)) (hc : Cond.constant Y.1.cls j x ∈ lw_all) (n : zz_L Y f Q (pc + 2) N) : zz_L Y f Q pc (ix_ci x N) := fun _ _ _ _ _ hi => zz_pure (fun _ hx hb _ ho hw k => lv_ldc hx hb ho (hw _ hc) d k) (n _ _ _ _ _ hi)
theorem sx_ldcw {Y : YY} {f : Nat} {Q : OO → AH → Prop} {pc : Nat} {N : KT} {j : Nat} {x : Int32} (d : decode Y.2.1 pc = .ok (.ldc_w j, 3)) (hc : Cond.constant Y.1.cls j x ∈ lw_all) (n : zz_L Y f Q (pc + 3) N) : zz_L Y f Q pc (ix_ci x N) := fun _ _ _ _ _ hi => zz_pure (fun _ hx hb _ ho hw k => lv_ldcw hx hb ho (hw _ hc) d k) (n _ _ _ _ _ hi)
theorem sx_ldc2 {Y : YY} {f : Nat} {Q : OO → AH → Prop} {pc : Nat} {N : KT} {j : Nat} {x : Int64} (d : decode Y.2.1 pc = .ok (.ldc2_w j, 3)) (hc : Cond.constantLong Y.1.cls j x ∈ lw_all) (n : zz_L Y f Q (pc + 3) N) : zz_L Y f Q pc (ix_cl x N) := fun _ _ _ _ _ hi => zz_pure (fun _ hx hb _ ho hw k => lv_ldc2 hx hb ho (hw _ hc) d k) (n _ _ _ _ _ hi)
theorem sx_ldcs {Y : YY} {f : Nat} {Q : OO → AH → Prop} {pc : Nat} {N : KT} {j i : Nat} {tx : String} (d : decode Y.2.1 pc = .ok (.ldc j, 2)) (hm : (Y.1.cls, j, tx, i) ∈ zz_strR) (h64 : (UInt64.ofNat i).toNat = i) (n : zz_L Y f Q (pc + 2) N) : zz_L Y f Q pc (ix_cs i N) := by
  intro lo st h c z hi D sa base p l e R s m args below meth cd H locs cells slots ls A
  have k := n _ _ _ _ _ hi D sa base p l e R s m args below meth cd H locs cells slots ls A
  have k1 := A.2.2.1.2.2.2.2.2.2.2.2.1 _ hm
  refine va_ldcS A.1.1 A.1.2.1 A.1.2.2.2.1 k1 d ?_
  have e : ah_v sa (.double (UInt64.ofNat i)) = .ref (sa i) := by
    show Value.ref (sa (UInt64.ofNat i).toNat) = _
    rw [h64]
  rw [← e]
  exact k
def ix_iload (i : Nat) (N : KT) (lo st : List Value) (h : AH) (c z : Nat) : Prop := match lo[i]? with
  | some (.int x) => N lo (.int x :: st) h c z
  | _ => False
def ix_lload (i : Nat) (N : KT) (lo st : List Value) (h : AH) (c z : Nat) : Prop := match lo[i]? with
  | some (.long x) => N lo (.long x :: st) h c z
  | _ => False
def ix_aload (i : Nat) (N : KT) (lo st : List Value) (h : AH) (c z : Nat) : Prop := match lo[i]? with
  | some (.ref r) => N lo (.ref r :: st) h c z
  | some (.double k) => N lo (.double k :: st) h c z
  | _ => False
theorem sx_iload_n {Y : YY} {f : Nat} {Q : OO → AH → Prop} {pc : Nat} {N : KT} {k : Fin 4} {i : Nat} (d : decode Y.2.1 pc = .ok (.iload_n k, 1)) (e : (k : Nat) = i) (n : zz_L Y f Q (pc + 1) N) : zz_L Y f Q pc (ix_iload i N) := by
  intro lo st h c z hi
  unfold ix_iload at hi
  split at hi
  · next hq => exact zz_pure (fun _ hx hb L _ _ k => lv_iload_n hx hb d e (ah_lo_at L hq rfl) k) (n _ _ _ _ _ hi)
  · exact hi.elim
theorem sx_iload {Y : YY} {f : Nat} {Q : OO → AH → Prop} {pc : Nat} {N : KT} {i : Nat} (d : decode Y.2.1 pc = .ok (.iload i, 2)) (n : zz_L Y f Q (pc + 2) N) : zz_L Y f Q pc (ix_iload i N) := by
  intro lo st h c z hi
  unfold ix_iload at hi
  split at hi
  · next hq => exact zz_pure (fun _ hx hb L _ _ k => lv_iload hx hb d (ah_lo_at L hq rfl) k) (n _ _ _ _ _ hi)
  · exact hi.elim
theorem sx_lload_n {Y : YY} {f : Nat} {Q : OO → AH → Prop} {pc : Nat} {N : KT} {k : Fin 4} {i : Nat} (d : decode Y.2.1 pc = .ok (.lload_n k, 1)) (e : (k : Nat) = i) (n : zz_L Y f Q (pc + 1) N) : zz_L Y f Q pc (ix_lload i N) := by
  intro lo st h c z hi
  unfold ix_lload at hi
  split at hi
  · next hq => exact zz_pure (fun _ hx hb L _ _ k => lv_lload_n hx hb d e (ah_lo_at L hq rfl) k) (n _ _ _ _ _ hi)
  · exact hi.elim
theorem sx_lload {Y : YY} {f : Nat} {Q : OO → AH → Prop} {pc : Nat} {N : KT} {i : Nat} (d : decode Y.2.1 pc = .ok (.lload i, 2)) (n : zz_L Y f Q (pc + 2) N) : zz_L Y f Q pc (ix_lload i N) := by
  intro lo st h c z hi
  unfold ix_lload at hi
  split at hi
  · next hq => exact zz_pure (fun _ hx hb L _ _ k => lv_lload hx hb d (ah_lo_at L hq rfl) k) (n _ _ _ _ _ hi)
  · exact hi.elim
theorem sx_aload_n {Y : YY} {f : Nat} {Q : OO → AH → Prop} {pc : Nat} {N : KT} {k : Fin 4} {i : Nat} (d : decode Y.2.1 pc = .ok (.aload_n k, 1)) (e : (k : Nat) = i) (n : zz_L Y f Q (pc + 1) N) : zz_L Y f Q pc (ix_aload i N) := by
  intro lo st h c z hi
  unfold ix_aload at hi
  split at hi
  · next r hq =>
    cases r with
    | zero => exact zz_pure (fun _ hx hb L _ _ k => lv_aload_nN hx hb d e (ah_lo_at L hq rfl) k) (n _ _ _ _ _ hi)
    | succ r => exact zz_pure (fun _ hx hb L _ _ k => lv_aload_n hx hb d e (ah_lo_at L hq rfl) k) (n _ _ _ _ _ hi)
  · next hq => exact zz_pure (fun _ hx hb L _ _ k => lv_aload_n hx hb d e (ah_lo_at L hq rfl) k) (n _ _ _ _ _ hi)
  · exact hi.elim
theorem sx_aload {Y : YY} {f : Nat} {Q : OO → AH → Prop} {pc : Nat} {N : KT} {i : Nat} (d : decode Y.2.1 pc = .ok (.aload i, 2)) (n : zz_L Y f Q (pc + 2) N) : zz_L Y f Q pc (ix_aload i N) := by
  intro lo st h c z hi
  unfold ix_aload at hi
  split at hi
  · next r hq =>
    cases r with
    | zero => exact zz_pure (fun _ hx hb L _ _ k => lv_aloadN hx hb d (ah_lo_at L hq rfl) k) (n _ _ _ _ _ hi)
    | succ r => exact zz_pure (fun _ hx hb L _ _ k => lv_aload hx hb d (ah_lo_at L hq rfl) k) (n _ _ _ _ _ hi)
  · next hq => exact zz_pure (fun _ hx hb L _ _ k => lv_aload hx hb d (ah_lo_at L hq rfl) k) (n _ _ _ _ _ hi)
  · exact hi.elim
def ix_istore (i : Nat) (N : KT) (lo st : List Value) (h : AH) (c z : Nat) : Prop := match st with
  | .int x :: st => N (ah_st1 i (.int x) lo) st h c z
  | _ => False
def ix_lstore (i : Nat) (N : KT) (lo st : List Value) (h : AH) (c z : Nat) : Prop := match st with
  | .long x :: st => N (ah_st2 i (.long x) lo) st h c z
  | _ => False
def ix_astore (i : Nat) (N : KT) (lo st : List Value) (h : AH) (c z : Nat) : Prop := match st with
  | .ref r :: st => N (ah_st1 i (.ref r) lo) st h c z
  | _ => False
def ix_iinc (i : Nat) (k : Int32) (N : KT) (lo st : List Value) (h : AH) (c z : Nat) : Prop := match lo[i]? with
  | some (.int x) => N (ah_st1 i (.int (x + k)) lo) st h c z
  | _ => False
theorem sx_istore_n {Y : YY} {f : Nat} {Q : OO → AH → Prop} {pc : Nat} {N : KT} {k : Fin 4} {i : Nat} (d : decode Y.2.1 pc = .ok (.istore_n k, 1)) (e : (k : Nat) = i) (hn : i < Y.2.2.1) (n : zz_L Y f Q (pc + 1) N) : zz_L Y f Q pc (ix_istore i N) := by
  intro lo st h c z hi
  unfold ix_istore at hi
  split at hi
  · exact zz_store (fun _ hx hb L k => lv_istore_n hx hb d e L hn rfl (fun ls' L' => k ls' (ah_st1_has L'))) (n _ _ _ _ _ hi)
  · exact hi.elim
theorem sx_istore {Y : YY} {f : Nat} {Q : OO → AH → Prop} {pc : Nat} {N : KT} {i : Nat} (d : decode Y.2.1 pc = .ok (.istore i, 2)) (hn : i < Y.2.2.1) (n : zz_L Y f Q (pc + 2) N) : zz_L Y f Q pc (ix_istore i N) := by
  intro lo st h c z hi
  unfold ix_istore at hi
  split at hi
  · exact zz_store (fun _ hx hb L k => lv_istore hx hb d L hn rfl (fun ls' L' => k ls' (ah_st1_has L'))) (n _ _ _ _ _ hi)
  · exact hi.elim
theorem sx_lstore_n {Y : YY} {f : Nat} {Q : OO → AH → Prop} {pc : Nat} {N : KT} {k : Fin 4} {i : Nat} (d : decode Y.2.1 pc = .ok (.lstore_n k, 1)) (e : (k : Nat) = i) (hn : i + 1 < Y.2.2.1) (n : zz_L Y f Q (pc + 1) N) : zz_L Y f Q pc (ix_lstore i N) := by
  intro lo st h c z hi
  unfold ix_lstore at hi
  split at hi
  · exact zz_store (fun _ hx hb L k => lv_lstore_n hx hb d e L hn rfl (fun ls' L' => k ls' (ah_st2_has L'))) (n _ _ _ _ _ hi)
  · exact hi.elim
theorem sx_lstore {Y : YY} {f : Nat} {Q : OO → AH → Prop} {pc : Nat} {N : KT} {i : Nat} (d : decode Y.2.1 pc = .ok (.lstore i, 2)) (hn : i + 1 < Y.2.2.1) (n : zz_L Y f Q (pc + 2) N) : zz_L Y f Q pc (ix_lstore i N) := by
  intro lo st h c z hi
  unfold ix_lstore at hi
  split at hi
  · exact zz_store (fun _ hx hb L k => lv_lstore hx hb d L hn rfl (fun ls' L' => k ls' (ah_st2_has L'))) (n _ _ _ _ _ hi)
  · exact hi.elim
theorem sx_astore_n {Y : YY} {f : Nat} {Q : OO → AH → Prop} {pc : Nat} {N : KT} {k : Fin 4} {i : Nat} (d : decode Y.2.1 pc = .ok (.astore_n k, 1)) (e : (k : Nat) = i) (hn : i < Y.2.2.1) (n : zz_L Y f Q (pc + 1) N) : zz_L Y f Q pc (ix_astore i N) := by
  intro lo st h c z hi
  unfold ix_astore at hi
  split at hi
  · next r st =>
    cases r with
    | zero => exact zz_store (fun _ hx hb L k => lv_astore_nN hx hb d e L hn rfl (fun ls' L' => k ls' (ah_st1_has L'))) (n _ _ _ _ _ hi)
    | succ r => exact zz_store (fun _ hx hb L k => lv_astore_n hx hb d e L hn rfl (fun ls' L' => k ls' (ah_st1_has L'))) (n _ _ _ _ _ hi)
  · exact hi.elim
theorem sx_astore {Y : YY} {f : Nat} {Q : OO → AH → Prop} {pc : Nat} {N : KT} {i : Nat} (d : decode Y.2.1 pc = .ok (.astore i, 2)) (hn : i < Y.2.2.1) (n : zz_L Y f Q (pc + 2) N) : zz_L Y f Q pc (ix_astore i N) := by
  intro lo st h c z hi
  unfold ix_astore at hi
  split at hi
  · next r st =>
    cases r with
    | zero => exact zz_store (fun _ hx hb L k => lv_astoreN hx hb d L hn rfl (fun ls' L' => k ls' (ah_st1_has L'))) (n _ _ _ _ _ hi)
    | succ r => exact zz_store (fun _ hx hb L k => lv_astore hx hb d L hn rfl (fun ls' L' => k ls' (ah_st1_has L'))) (n _ _ _ _ _ hi)
  · exact hi.elim
theorem sx_iinc {Y : YY} {f : Nat} {Q : OO → AH → Prop} {pc : Nat} {N : KT} {i : Nat} {j : Int} {k : Int32} (d : decode Y.2.1 pc = .ok (.iinc i j, 3)) (hk : Int32.ofInt j = k) (hn : i < Y.2.2.1) (n : zz_L Y f Q (pc + 3) N) : zz_L Y f Q pc (ix_iinc i k N) := by
  intro lo st h c z hi
  unfold ix_iinc at hi
  split at hi
  · next x hq =>
    refine zz_store (fun sa hx hb L k => ?_) (n _ _ _ _ _ hi)
    obtain ⟨q, hm⟩ := List.getElem?_of_mem ((ah_lo_mem (sa := sa) (j := i) (w := .int x) lo 0).mpr ⟨i, _, (Nat.zero_add i).symm, hq, rfl, rfl⟩)
    exact lv_iinc hx hb d L hm (by rw [hk]) hn rfl (fun ls' L' => k ls' (ah_st1_has L'))
  · exact hi.elim
def ix_iadd (N : KT) (lo st : List Value) (h : AH) (c z : Nat) : Prop := match st with
  | .int y :: .int x :: st => N lo (.int (x + y) :: st) h c z
  | _ => False
theorem sx_iadd {Y : YY} {f : Nat} {Q : OO → AH → Prop} {pc : Nat} {N : KT} (d : decode Y.2.1 pc = .ok (.iadd, 1)) (n : zz_L Y f Q (pc + 1) N) : zz_L Y f Q pc (ix_iadd N) := by
  intro lo st h c z hi
  unfold ix_iadd at hi
  split at hi
  · exact zz_pure (fun _ hx hb _ _ _ k => lv_iadd hx hb d k) (n _ _ _ _ _ hi)
  · exact hi.elim
def ix_isub (N : KT) (lo st : List Value) (h : AH) (c z : Nat) : Prop := match st with
  | .int y :: .int x :: st => N lo (.int (x - y) :: st) h c z
  | _ => False
theorem sx_isub {Y : YY} {f : Nat} {Q : OO → AH → Prop} {pc : Nat} {N : KT} (d : decode Y.2.1 pc = .ok (.isub, 1)) (n : zz_L Y f Q (pc + 1) N) : zz_L Y f Q pc (ix_isub N) := by
  intro lo st h c z hi
  unfold ix_isub at hi
  split at hi
  · exact zz_pure (fun _ hx hb _ _ _ k => lv_isub hx hb d k) (n _ _ _ _ _ hi)
  · exact hi.elim
def ix_imul (N : KT) (lo st : List Value) (h : AH) (c z : Nat) : Prop := match st with
  | .int y :: .int x :: st => N lo (.int (x * y) :: st) h c z
  | _ => False
theorem sx_imul {Y : YY} {f : Nat} {Q : OO → AH → Prop} {pc : Nat} {N : KT} (d : decode Y.2.1 pc = .ok (.imul, 1)) (n : zz_L Y f Q (pc + 1) N) : zz_L Y f Q pc (ix_imul N) := by
  intro lo st h c z hi
  unfold ix_imul at hi
  split at hi
  · exact zz_pure (fun _ hx hb _ _ _ k => lv_imul hx hb d k) (n _ _ _ _ _ hi)
  · exact hi.elim
def ix_iand (N : KT) (lo st : List Value) (h : AH) (c z : Nat) : Prop := match st with
  | .int y :: .int x :: st => N lo (.int (x &&& y) :: st) h c z
  | _ => False
theorem sx_iand {Y : YY} {f : Nat} {Q : OO → AH → Prop} {pc : Nat} {N : KT} (d : decode Y.2.1 pc = .ok (.iand, 1)) (n : zz_L Y f Q (pc + 1) N) : zz_L Y f Q pc (ix_iand N) := by
  intro lo st h c z hi
  unfold ix_iand at hi
  split at hi
  · exact zz_pure (fun _ hx hb _ _ _ k => lv_iand hx hb d k) (n _ _ _ _ _ hi)
  · exact hi.elim
def ix_ior (N : KT) (lo st : List Value) (h : AH) (c z : Nat) : Prop := match st with
  | .int y :: .int x :: st => N lo (.int (x ||| y) :: st) h c z
  | _ => False
theorem sx_ior {Y : YY} {f : Nat} {Q : OO → AH → Prop} {pc : Nat} {N : KT} (d : decode Y.2.1 pc = .ok (.ior, 1)) (n : zz_L Y f Q (pc + 1) N) : zz_L Y f Q pc (ix_ior N) := by
  intro lo st h c z hi
  unfold ix_ior at hi
  split at hi
  · exact zz_pure (fun _ hx hb _ _ _ k => lv_ior hx hb d k) (n _ _ _ _ _ hi)
  · exact hi.elim
def ix_ixor (N : KT) (lo st : List Value) (h : AH) (c z : Nat) : Prop := match st with
  | .int y :: .int x :: st => N lo (.int (x ^^^ y) :: st) h c z
  | _ => False
theorem sx_ixor {Y : YY} {f : Nat} {Q : OO → AH → Prop} {pc : Nat} {N : KT} (d : decode Y.2.1 pc = .ok (.ixor, 1)) (n : zz_L Y f Q (pc + 1) N) : zz_L Y f Q pc (ix_ixor N) := by
  intro lo st h c z hi
  unfold ix_ixor at hi
  split at hi
  · exact zz_pure (fun _ hx hb _ _ _ k => lv_ixor hx hb d k) (n _ _ _ _ _ hi)
  · exact hi.elim
def ix_ishl (N : KT) (lo st : List Value) (h : AH) (c z : Nat) : Prop := match st with
  | .int y :: .int x :: st => N lo (.int (x <<< (y &&& 31)) :: st) h c z
  | _ => False
theorem sx_ishl {Y : YY} {f : Nat} {Q : OO → AH → Prop} {pc : Nat} {N : KT} (d : decode Y.2.1 pc = .ok (.ishl, 1)) (n : zz_L Y f Q (pc + 1) N) : zz_L Y f Q pc (ix_ishl N) := by
  intro lo st h c z hi
  unfold ix_ishl at hi
  split at hi
  · exact zz_pure (fun _ hx hb _ _ _ k => lv_ishl hx hb d k) (n _ _ _ _ _ hi)
  · exact hi.elim
def ix_ishr (N : KT) (lo st : List Value) (h : AH) (c z : Nat) : Prop := match st with
  | .int y :: .int x :: st => N lo (.int (x >>> (y &&& 31)) :: st) h c z
  | _ => False
theorem sx_ishr {Y : YY} {f : Nat} {Q : OO → AH → Prop} {pc : Nat} {N : KT} (d : decode Y.2.1 pc = .ok (.ishr, 1)) (n : zz_L Y f Q (pc + 1) N) : zz_L Y f Q pc (ix_ishr N) := by
  intro lo st h c z hi
  unfold ix_ishr at hi
  split at hi
  · exact zz_pure (fun _ hx hb _ _ _ k => lv_ishr hx hb d k) (n _ _ _ _ _ hi)
  · exact hi.elim
def ix_idiv (N : KT) (lo st : List Value) (h : AH) (c z : Nat) : Prop := match st with
  | .int y :: .int x :: st => y ≠ 0 ∧ N lo (.int (x / y) :: st) h c z
  | _ => False
theorem sx_idiv {Y : YY} {f : Nat} {Q : OO → AH → Prop} {pc : Nat} {N : KT} (d : decode Y.2.1 pc = .ok (.idiv, 1)) (n : zz_L Y f Q (pc + 1) N) : zz_L Y f Q pc (ix_idiv N) := by
  intro lo st h c z hi
  unfold ix_idiv at hi
  split at hi
  · exact zz_pure (fun _ hx hb _ _ _ k => lv_idiv hx hb d hi.1 k) (n _ _ _ _ _ hi.2)
  · exact hi.elim
def ix_irem (N : KT) (lo st : List Value) (h : AH) (c z : Nat) : Prop := match st with
  | .int y :: .int x :: st => y ≠ 0 ∧ N lo (.int (x - x / y * y) :: st) h c z
  | _ => False
theorem sx_irem {Y : YY} {f : Nat} {Q : OO → AH → Prop} {pc : Nat} {N : KT} (d : decode Y.2.1 pc = .ok (.irem, 1)) (n : zz_L Y f Q (pc + 1) N) : zz_L Y f Q pc (ix_irem N) := by
  intro lo st h c z hi
  unfold ix_irem at hi
  split at hi
  · exact zz_pure (fun _ hx hb _ _ _ k => lv_irem hx hb d hi.1 k) (n _ _ _ _ _ hi.2)
  · exact hi.elim
def ix_iushr (N : KT) (lo st : List Value) (h : AH) (c z : Nat) : Prop := match st with
  | .int y :: .int x :: st => N lo (.int ((x.toUInt32 >>> (y.toUInt32 &&& Int32.toUInt32 31)).toInt32) :: st) h c z
  | _ => False
theorem sx_iushr {Y : YY} {f : Nat} {Q : OO → AH → Prop} {pc : Nat} {N : KT} (d : decode Y.2.1 pc = .ok (.iushr, 1)) (n : zz_L Y f Q (pc + 1) N) : zz_L Y f Q pc (ix_iushr N) := by
  intro lo st h c z hi
  unfold ix_iushr at hi
  split at hi
  · exact zz_pure (fun _ hx hb _ _ _ k => lv_iushr hx hb d rfl k) (n _ _ _ _ _ hi)
  · exact hi.elim
def ix_ladd (N : KT) (lo st : List Value) (h : AH) (c z : Nat) : Prop := match st with
  | .long y :: .long x :: st => N lo (.long (x + y) :: st) h c z
  | _ => False
theorem sx_ladd {Y : YY} {f : Nat} {Q : OO → AH → Prop} {pc : Nat} {N : KT} (d : decode Y.2.1 pc = .ok (.ladd, 1)) (n : zz_L Y f Q (pc + 1) N) : zz_L Y f Q pc (ix_ladd N) := by
  intro lo st h c z hi
  unfold ix_ladd at hi
  split at hi
  · exact zz_pure (fun _ hx hb _ _ _ k => lv_ladd hx hb d k) (n _ _ _ _ _ hi)
  · exact hi.elim
def ix_lsub (N : KT) (lo st : List Value) (h : AH) (c z : Nat) : Prop := match st with
  | .long y :: .long x :: st => N lo (.long (x - y) :: st) h c z
  | _ => False
theorem sx_lsub {Y : YY} {f : Nat} {Q : OO → AH → Prop} {pc : Nat} {N : KT} (d : decode Y.2.1 pc = .ok (.lsub, 1)) (n : zz_L Y f Q (pc + 1) N) : zz_L Y f Q pc (ix_lsub N) := by
  intro lo st h c z hi
  unfold ix_lsub at hi
  split at hi
  · exact zz_pure (fun _ hx hb _ _ _ k => lv_lsub hx hb d k) (n _ _ _ _ _ hi)
  · exact hi.elim
def ix_lmul (N : KT) (lo st : List Value) (h : AH) (c z : Nat) : Prop := match st with
  | .long y :: .long x :: st => N lo (.long (x * y) :: st) h c z
  | _ => False
theorem sx_lmul {Y : YY} {f : Nat} {Q : OO → AH → Prop} {pc : Nat} {N : KT} (d : decode Y.2.1 pc = .ok (.lmul, 1)) (n : zz_L Y f Q (pc + 1) N) : zz_L Y f Q pc (ix_lmul N) := by
  intro lo st h c z hi
  unfold ix_lmul at hi
  split at hi
  · exact zz_pure (fun _ hx hb _ _ _ k => lv_lmul hx hb d k) (n _ _ _ _ _ hi)
  · exact hi.elim
def ix_land (N : KT) (lo st : List Value) (h : AH) (c z : Nat) : Prop := match st with
  | .long y :: .long x :: st => N lo (.long (x &&& y) :: st) h c z
  | _ => False
theorem sx_land {Y : YY} {f : Nat} {Q : OO → AH → Prop} {pc : Nat} {N : KT} (d : decode Y.2.1 pc = .ok (.land, 1)) (n : zz_L Y f Q (pc + 1) N) : zz_L Y f Q pc (ix_land N) := by
  intro lo st h c z hi
  unfold ix_land at hi
  split at hi
  · exact zz_pure (fun _ hx hb _ _ _ k => lv_land hx hb d k) (n _ _ _ _ _ hi)
  · exact hi.elim
def ix_lor (N : KT) (lo st : List Value) (h : AH) (c z : Nat) : Prop := match st with
  | .long y :: .long x :: st => N lo (.long (x ||| y) :: st) h c z
  | _ => False
theorem sx_lor {Y : YY} {f : Nat} {Q : OO → AH → Prop} {pc : Nat} {N : KT} (d : decode Y.2.1 pc = .ok (.lor, 1)) (n : zz_L Y f Q (pc + 1) N) : zz_L Y f Q pc (ix_lor N) := by
  intro lo st h c z hi
  unfold ix_lor at hi
  split at hi
  · exact zz_pure (fun _ hx hb _ _ _ k => lv_lor hx hb d k) (n _ _ _ _ _ hi)
  · exact hi.elim
def ix_ldiv (N : KT) (lo st : List Value) (h : AH) (c z : Nat) : Prop := match st with
  | .long y :: .long x :: st => y ≠ 0 ∧ N lo (.long (x / y) :: st) h c z
  | _ => False
theorem sx_ldiv {Y : YY} {f : Nat} {Q : OO → AH → Prop} {pc : Nat} {N : KT} (d : decode Y.2.1 pc = .ok (.ldiv, 1)) (n : zz_L Y f Q (pc + 1) N) : zz_L Y f Q pc (ix_ldiv N) := by
  intro lo st h c z hi
  unfold ix_ldiv at hi
  split at hi
  · exact zz_pure (fun _ hx hb _ _ _ k => lv_ldiv hx hb d hi.1 k) (n _ _ _ _ _ hi.2)
  · exact hi.elim
def ix_lrem (N : KT) (lo st : List Value) (h : AH) (c z : Nat) : Prop := match st with
  | .long y :: .long x :: st => y ≠ 0 ∧ N lo (.long (x - x / y * y) :: st) h c z
  | _ => False
theorem sx_lrem {Y : YY} {f : Nat} {Q : OO → AH → Prop} {pc : Nat} {N : KT} (d : decode Y.2.1 pc = .ok (.lrem, 1)) (n : zz_L Y f Q (pc + 1) N) : zz_L Y f Q pc (ix_lrem N) := by
  intro lo st h c z hi
  unfold ix_lrem at hi
  split at hi
  · exact zz_pure (fun _ hx hb _ _ _ k => lv_lrem hx hb d hi.1 k) (n _ _ _ _ _ hi.2)
  · exact hi.elim
def ix_lshl (N : KT) (lo st : List Value) (h : AH) (c z : Nat) : Prop := match st with
  | .int y :: .long x :: st => N lo (.long (x <<< (y.toInt64 &&& 63)) :: st) h c z
  | _ => False
theorem sx_lshl {Y : YY} {f : Nat} {Q : OO → AH → Prop} {pc : Nat} {N : KT} (d : decode Y.2.1 pc = .ok (.lshl, 1)) (n : zz_L Y f Q (pc + 1) N) : zz_L Y f Q pc (ix_lshl N) := by
  intro lo st h c z hi
  unfold ix_lshl at hi
  split at hi
  · exact zz_pure (fun _ hx hb _ _ _ k => lv_lshl hx hb d rfl k) (n _ _ _ _ _ hi)
  · exact hi.elim
def ix_lshr (N : KT) (lo st : List Value) (h : AH) (c z : Nat) : Prop := match st with
  | .int y :: .long x :: st => N lo (.long (x >>> (y.toInt64 &&& 63)) :: st) h c z
  | _ => False
theorem sx_lshr {Y : YY} {f : Nat} {Q : OO → AH → Prop} {pc : Nat} {N : KT} (d : decode Y.2.1 pc = .ok (.lshr, 1)) (n : zz_L Y f Q (pc + 1) N) : zz_L Y f Q pc (ix_lshr N) := by
  intro lo st h c z hi
  unfold ix_lshr at hi
  split at hi
  · exact zz_pure (fun _ hx hb _ _ _ k => lv_lshr hx hb d rfl k) (n _ _ _ _ _ hi)
  · exact hi.elim
def ix_lushr (N : KT) (lo st : List Value) (h : AH) (c z : Nat) : Prop := match st with
  | .int y :: .long x :: st => N lo (.long ((x.toUInt64 >>> (y.toInt64.toUInt64 &&& Int64.toUInt64 63)).toInt64) :: st) h c z
  | _ => False
theorem sx_lushr {Y : YY} {f : Nat} {Q : OO → AH → Prop} {pc : Nat} {N : KT} (d : decode Y.2.1 pc = .ok (.lushr, 1)) (n : zz_L Y f Q (pc + 1) N) : zz_L Y f Q pc (ix_lushr N) := by
  intro lo st h c z hi
  unfold ix_lushr at hi
  split at hi
  · exact zz_pure (fun _ hx hb _ _ _ k => lv_lushr hx hb d rfl k) (n _ _ _ _ _ hi)
  · exact hi.elim
def ix_lcmp (N : KT) (lo st : List Value) (h : AH) (c z : Nat) : Prop := match st with
  | .long y :: .long x :: st => N lo (.int (lg_cmp x y) :: st) h c z
  | _ => False
theorem sx_lcmp {Y : YY} {f : Nat} {Q : OO → AH → Prop} {pc : Nat} {N : KT} (d : decode Y.2.1 pc = .ok (.lcmp, 1)) (n : zz_L Y f Q (pc + 1) N) : zz_L Y f Q pc (ix_lcmp N) := by
  intro lo st h c z hi
  unfold ix_lcmp at hi
  split at hi
  · exact zz_pure (fun _ hx hb _ _ _ k => W.lcmp hx hb d k) (n _ _ _ _ _ hi)
  · exact hi.elim
def ix_i2l (N : KT) (lo st : List Value) (h : AH) (c z : Nat) : Prop := match st with
  | .int x :: st => N lo (.long (x.toInt64) :: st) h c z
  | _ => False
theorem sx_i2l {Y : YY} {f : Nat} {Q : OO → AH → Prop} {pc : Nat} {N : KT} (d : decode Y.2.1 pc = .ok (.i2l, 1)) (n : zz_L Y f Q (pc + 1) N) : zz_L Y f Q pc (ix_i2l N) := by
  intro lo st h c z hi
  unfold ix_i2l at hi
  split at hi
  · exact zz_pure (fun _ hx hb _ _ _ k => lv_i2l hx hb d rfl k) (n _ _ _ _ _ hi)
  · exact hi.elim
def ix_l2i (N : KT) (lo st : List Value) (h : AH) (c z : Nat) : Prop := match st with
  | .long x :: st => N lo (.int (x.toInt32) :: st) h c z
  | _ => False
theorem sx_l2i {Y : YY} {f : Nat} {Q : OO → AH → Prop} {pc : Nat} {N : KT} (d : decode Y.2.1 pc = .ok (.l2i, 1)) (n : zz_L Y f Q (pc + 1) N) : zz_L Y f Q pc (ix_l2i N) := by
  intro lo st h c z hi
  unfold ix_l2i at hi
  split at hi
  · exact zz_pure (fun _ hx hb _ _ _ k => lv_l2i hx hb d rfl k) (n _ _ _ _ _ hi)
  · exact hi.elim
def ix_i2b (N : KT) (lo st : List Value) (h : AH) (c z : Nat) : Prop := match st with
  | .int x :: st => N lo (.int (x.toInt8.toInt32) :: st) h c z
  | _ => False
theorem sx_i2b {Y : YY} {f : Nat} {Q : OO → AH → Prop} {pc : Nat} {N : KT} (d : decode Y.2.1 pc = .ok (.i2b, 1)) (n : zz_L Y f Q (pc + 1) N) : zz_L Y f Q pc (ix_i2b N) := by
  intro lo st h c z hi
  unfold ix_i2b at hi
  split at hi
  · exact zz_pure (fun _ hx hb _ _ _ k => lv_i2b hx hb d rfl k) (n _ _ _ _ _ hi)
  · exact hi.elim
def ix_i2s (N : KT) (lo st : List Value) (h : AH) (c z : Nat) : Prop := match st with
  | .int x :: st => N lo (.int (x.toInt16.toInt32) :: st) h c z
  | _ => False
theorem sx_i2s {Y : YY} {f : Nat} {Q : OO → AH → Prop} {pc : Nat} {N : KT} (d : decode Y.2.1 pc = .ok (.i2s, 1)) (n : zz_L Y f Q (pc + 1) N) : zz_L Y f Q pc (ix_i2s N) := by
  intro lo st h c z hi
  unfold ix_i2s at hi
  split at hi
  · exact zz_pure (fun _ hx hb _ _ _ k => lv_i2s hx hb d rfl k) (n _ _ _ _ _ hi)
  · exact hi.elim
def ix_i2c (N : KT) (lo st : List Value) (h : AH) (c z : Nat) : Prop := match st with
  | .int x :: st => N lo (.int ((x.toUInt32 % 65536).toInt32) :: st) h c z
  | _ => False
theorem sx_i2c {Y : YY} {f : Nat} {Q : OO → AH → Prop} {pc : Nat} {N : KT} (d : decode Y.2.1 pc = .ok (.i2c, 1)) (n : zz_L Y f Q (pc + 1) N) : zz_L Y f Q pc (ix_i2c N) := by
  intro lo st h c z hi
  unfold ix_i2c at hi
  split at hi
  · exact zz_pure (fun _ hx hb _ _ _ k => lv_i2c hx hb d rfl k) (n _ _ _ _ _ hi)
  · exact hi.elim
def ix_lneg (N : KT) (lo st : List Value) (h : AH) (c z : Nat) : Prop := match st with
  | .long x :: st => N lo (.long (-x) :: st) h c z
  | _ => False
theorem sx_lneg {Y : YY} {f : Nat} {Q : OO → AH → Prop} {pc : Nat} {N : KT} (d : decode Y.2.1 pc = .ok (.lneg, 1)) (n : zz_L Y f Q (pc + 1) N) : zz_L Y f Q pc (ix_lneg N) := by
  intro lo st h c z hi
  unfold ix_lneg at hi
  split at hi
  · exact zz_pure (fun _ hx hb _ _ _ k => lv_lneg hx hb d k) (n _ _ _ _ _ hi)
  · exact hi.elim
def ix_ineg (N : KT) (lo st : List Value) (h : AH) (c z : Nat) : Prop := match st with
  | .int x :: st => N lo (.int (-x) :: st) h c z
  | _ => False
theorem sx_ineg {Y : YY} {f : Nat} {Q : OO → AH → Prop} {pc : Nat} {N : KT} (d : decode Y.2.1 pc = .ok (.ineg, 1)) (n : zz_L Y f Q (pc + 1) N) : zz_L Y f Q pc (ix_ineg N) := by
  intro lo st h c z hi
  unfold ix_ineg at hi
  split at hi
  · exact zz_pure (fun _ hx hb _ _ _ k => lv_ineg hx hb d k) (n _ _ _ _ _ hi)
  · exact hi.elim
def ix_dup (N : KT) (lo st : List Value) (h : AH) (c z : Nat) : Prop := match st with
  | a :: st => ah_cat a = 1 ∧ N lo (a :: a :: st) h c z
  | _ => False
theorem sx_dup {Y : YY} {f : Nat} {Q : OO → AH → Prop} {pc : Nat} {N : KT} (d : decode Y.2.1 pc = .ok (.dup, 1)) (n : zz_L Y f Q (pc + 1) N) : zz_L Y f Q pc (ix_dup N) := by
  intro lo st h c z hi
  unfold ix_dup at hi
  split at hi
  · exact zz_pure (fun sa hx hb _ _ _ k => lv_dup hx hb d (by rw [ah_v_cat]; exact hi.1) k) (n _ _ _ _ _ hi.2)
  · exact hi.elim
def ix_dup2 (N : KT) (lo st : List Value) (h : AH) (c z : Nat) : Prop := match st with
  | a :: b :: st => ah_cat a = 1 ∧ ah_cat b = 1 ∧ N lo (a :: b :: a :: b :: st) h c z
  | _ => False
theorem sx_dup2 {Y : YY} {f : Nat} {Q : OO → AH → Prop} {pc : Nat} {N : KT} (d : decode Y.2.1 pc = .ok (.dup2, 1)) (n : zz_L Y f Q (pc + 1) N) : zz_L Y f Q pc (ix_dup2 N) := by
  intro lo st h c z hi
  unfold ix_dup2 at hi
  split at hi
  · exact zz_pure (fun sa hx hb _ _ _ k => lv_dup2_11 hx hb d (by rw [ah_v_cat]; exact hi.1) (by rw [ah_v_cat]; exact hi.2.1) k) (n _ _ _ _ _ hi.2.2)
  · exact hi.elim
def ix_pop (N : KT) (lo st : List Value) (h : AH) (c z : Nat) : Prop := match st with
  | a :: st => ah_cat a = 1 ∧ N lo st h c z
  | _ => False
theorem sx_pop {Y : YY} {f : Nat} {Q : OO → AH → Prop} {pc : Nat} {N : KT} (d : decode Y.2.1 pc = .ok (.pop, 1)) (n : zz_L Y f Q (pc + 1) N) : zz_L Y f Q pc (ix_pop N) := by
  intro lo st h c z hi
  unfold ix_pop at hi
  split at hi
  · exact zz_pure (fun sa hx hb _ _ _ k => lv_pop hx hb d (by rw [ah_v_cat]; exact hi.1) k) (n _ _ _ _ _ hi.2)
  · exact hi.elim
theorem zz_br {Y : YY} {f : Nat} {Q : OO → AH → Prop} {pc p1 p2 : Nat} {lo st st' : List Value} {h : AH} {c z : Nat} {C1 C2 : Prop}
    (row : ∀ {p : Program} {l : Launch} {e : Env} {R : Room} {s : State} {m : MethodId} {args : Array Value} {below : List Frame} {meth : Method} {cd : Code} {H : Heap} {locs : List Loc} {cells slots : Nat} {QQ : State → Prop} {ls : Array Slot} (sa : Nat → Nat), p.tables.exec = Jvm.exec → cd.code = Y.2.1 →
      (C1 → W p l e R s m args below meth cd H locs cells slots QQ (F0 m p1 ls (st'.map (ah_v sa)))) → (C2 → W p l e R s m args below meth cd H locs cells slots QQ (F0 m p2 ls (st'.map (ah_v sa)))) → W p l e R s m args below meth cd H locs cells slots QQ (F0 m pc ls (st.map (ah_v sa))))
    (k1 : C1 → zz_G Y f Q p1 lo st' h c z) (k2 : C2 → zz_G Y f Q p2 lo st' h c z) : zz_G Y f Q pc lo st h c z := by
  intro D sa base p l e R s m args below meth cd H locs cells slots ls A
  exact row sa A.1.1 A.1.2.1 (fun c1 => k1 c1 D sa base p l e R s m args below meth cd H locs cells slots ls A) (fun c2 => k2 c2 D sa base p l e R s m args below meth cd H locs cells slots ls A)
def ix_if_eq (T N : KT) (lo st : List Value) (h : AH) (c z : Nat) : Prop := match st with
  | .int x :: st => (x = 0 → T lo st h c z) ∧ (¬ x = 0 → N lo st h c z)
  | _ => False
theorem sx_if_eq {Y : YY} {f : Nat} {Q : OO → AH → Prop} {pc : Nat} {N : KT} {off : Int} {t : Nat} {T : KT} (d : decode Y.2.1 pc = .ok (.ifCond .eq off, 3)) (ht : (pc : Int) + off = (t : Int)) (k : zz_L Y f Q t T) (n : zz_L Y f Q (pc + 3) N) : zz_L Y f Q pc (ix_if_eq T N) := by
  intro lo st h c z hi
  unfold ix_if_eq at hi
  split at hi
  · exact zz_br (fun _ hx hb k1 k2 => lv_if_eq hx hb d ht k1 k2) (fun c1 => k _ _ _ _ _ (hi.1 c1)) (fun c2 => n _ _ _ _ _ (hi.2 c2))
  · exact hi.elim
def ix_icmp_eq (T N : KT) (lo st : List Value) (h : AH) (c z : Nat) : Prop := match st with
  | .int y :: .int x :: st => (x = y → T lo st h c z) ∧ (¬ x = y → N lo st h c z)
  | _ => False
theorem sx_icmp_eq {Y : YY} {f : Nat} {Q : OO → AH → Prop} {pc : Nat} {N : KT} {off : Int} {t : Nat} {T : KT} (d : decode Y.2.1 pc = .ok (.if_icmp .eq off, 3)) (ht : (pc : Int) + off = (t : Int)) (k : zz_L Y f Q t T) (n : zz_L Y f Q (pc + 3) N) : zz_L Y f Q pc (ix_icmp_eq T N) := by
  intro lo st h c z hi
  unfold ix_icmp_eq at hi
  split at hi
  · exact zz_br (fun _ hx hb k1 k2 => lv_icmp_eq hx hb d ht k1 k2) (fun c1 => k _ _ _ _ _ (hi.1 c1)) (fun c2 => n _ _ _ _ _ (hi.2 c2))
  · exact hi.elim
def ix_if_ne (T N : KT) (lo st : List Value) (h : AH) (c z : Nat) : Prop := match st with
  | .int x :: st => (¬ x = 0 → T lo st h c z) ∧ (x = 0 → N lo st h c z)
  | _ => False
theorem sx_if_ne {Y : YY} {f : Nat} {Q : OO → AH → Prop} {pc : Nat} {N : KT} {off : Int} {t : Nat} {T : KT} (d : decode Y.2.1 pc = .ok (.ifCond .ne off, 3)) (ht : (pc : Int) + off = (t : Int)) (k : zz_L Y f Q t T) (n : zz_L Y f Q (pc + 3) N) : zz_L Y f Q pc (ix_if_ne T N) := by
  intro lo st h c z hi
  unfold ix_if_ne at hi
  split at hi
  · exact zz_br (fun _ hx hb k1 k2 => lv_if_ne hx hb d ht k1 k2) (fun c1 => k _ _ _ _ _ (hi.1 c1)) (fun c2 => n _ _ _ _ _ (hi.2 c2))
  · exact hi.elim
def ix_icmp_ne (T N : KT) (lo st : List Value) (h : AH) (c z : Nat) : Prop := match st with
  | .int y :: .int x :: st => (¬ x = y → T lo st h c z) ∧ (x = y → N lo st h c z)
  | _ => False
theorem sx_icmp_ne {Y : YY} {f : Nat} {Q : OO → AH → Prop} {pc : Nat} {N : KT} {off : Int} {t : Nat} {T : KT} (d : decode Y.2.1 pc = .ok (.if_icmp .ne off, 3)) (ht : (pc : Int) + off = (t : Int)) (k : zz_L Y f Q t T) (n : zz_L Y f Q (pc + 3) N) : zz_L Y f Q pc (ix_icmp_ne T N) := by
  intro lo st h c z hi
  unfold ix_icmp_ne at hi
  split at hi
  · exact zz_br (fun _ hx hb k1 k2 => lv_icmp_ne hx hb d ht k1 k2) (fun c1 => k _ _ _ _ _ (hi.1 c1)) (fun c2 => n _ _ _ _ _ (hi.2 c2))
  · exact hi.elim
def ix_if_lt (T N : KT) (lo st : List Value) (h : AH) (c z : Nat) : Prop := match st with
  | .int x :: st => (x < 0 → T lo st h c z) ∧ (¬ x < 0 → N lo st h c z)
  | _ => False
theorem sx_if_lt {Y : YY} {f : Nat} {Q : OO → AH → Prop} {pc : Nat} {N : KT} {off : Int} {t : Nat} {T : KT} (d : decode Y.2.1 pc = .ok (.ifCond .lt off, 3)) (ht : (pc : Int) + off = (t : Int)) (k : zz_L Y f Q t T) (n : zz_L Y f Q (pc + 3) N) : zz_L Y f Q pc (ix_if_lt T N) := by
  intro lo st h c z hi
  unfold ix_if_lt at hi
  split at hi
  · exact zz_br (fun _ hx hb k1 k2 => lv_if_lt hx hb d ht k1 k2) (fun c1 => k _ _ _ _ _ (hi.1 c1)) (fun c2 => n _ _ _ _ _ (hi.2 c2))
  · exact hi.elim
def ix_icmp_lt (T N : KT) (lo st : List Value) (h : AH) (c z : Nat) : Prop := match st with
  | .int y :: .int x :: st => (x < y → T lo st h c z) ∧ (¬ x < y → N lo st h c z)
  | _ => False
theorem sx_icmp_lt {Y : YY} {f : Nat} {Q : OO → AH → Prop} {pc : Nat} {N : KT} {off : Int} {t : Nat} {T : KT} (d : decode Y.2.1 pc = .ok (.if_icmp .lt off, 3)) (ht : (pc : Int) + off = (t : Int)) (k : zz_L Y f Q t T) (n : zz_L Y f Q (pc + 3) N) : zz_L Y f Q pc (ix_icmp_lt T N) := by
  intro lo st h c z hi
  unfold ix_icmp_lt at hi
  split at hi
  · exact zz_br (fun _ hx hb k1 k2 => lv_icmp_lt hx hb d ht k1 k2) (fun c1 => k _ _ _ _ _ (hi.1 c1)) (fun c2 => n _ _ _ _ _ (hi.2 c2))
  · exact hi.elim
def ix_if_ge (T N : KT) (lo st : List Value) (h : AH) (c z : Nat) : Prop := match st with
  | .int x :: st => (0 ≤ x → T lo st h c z) ∧ (¬ 0 ≤ x → N lo st h c z)
  | _ => False
theorem sx_if_ge {Y : YY} {f : Nat} {Q : OO → AH → Prop} {pc : Nat} {N : KT} {off : Int} {t : Nat} {T : KT} (d : decode Y.2.1 pc = .ok (.ifCond .ge off, 3)) (ht : (pc : Int) + off = (t : Int)) (k : zz_L Y f Q t T) (n : zz_L Y f Q (pc + 3) N) : zz_L Y f Q pc (ix_if_ge T N) := by
  intro lo st h c z hi
  unfold ix_if_ge at hi
  split at hi
  · exact zz_br (fun _ hx hb k1 k2 => lv_if_ge hx hb d ht k1 k2) (fun c1 => k _ _ _ _ _ (hi.1 c1)) (fun c2 => n _ _ _ _ _ (hi.2 c2))
  · exact hi.elim
def ix_icmp_ge (T N : KT) (lo st : List Value) (h : AH) (c z : Nat) : Prop := match st with
  | .int y :: .int x :: st => (y ≤ x → T lo st h c z) ∧ (¬ y ≤ x → N lo st h c z)
  | _ => False
theorem sx_icmp_ge {Y : YY} {f : Nat} {Q : OO → AH → Prop} {pc : Nat} {N : KT} {off : Int} {t : Nat} {T : KT} (d : decode Y.2.1 pc = .ok (.if_icmp .ge off, 3)) (ht : (pc : Int) + off = (t : Int)) (k : zz_L Y f Q t T) (n : zz_L Y f Q (pc + 3) N) : zz_L Y f Q pc (ix_icmp_ge T N) := by
  intro lo st h c z hi
  unfold ix_icmp_ge at hi
  split at hi
  · exact zz_br (fun _ hx hb k1 k2 => lv_icmp_ge hx hb d ht k1 k2) (fun c1 => k _ _ _ _ _ (hi.1 c1)) (fun c2 => n _ _ _ _ _ (hi.2 c2))
  · exact hi.elim
def ix_if_gt (T N : KT) (lo st : List Value) (h : AH) (c z : Nat) : Prop := match st with
  | .int x :: st => (0 < x → T lo st h c z) ∧ (¬ 0 < x → N lo st h c z)
  | _ => False
theorem sx_if_gt {Y : YY} {f : Nat} {Q : OO → AH → Prop} {pc : Nat} {N : KT} {off : Int} {t : Nat} {T : KT} (d : decode Y.2.1 pc = .ok (.ifCond .gt off, 3)) (ht : (pc : Int) + off = (t : Int)) (k : zz_L Y f Q t T) (n : zz_L Y f Q (pc + 3) N) : zz_L Y f Q pc (ix_if_gt T N) := by
  intro lo st h c z hi
  unfold ix_if_gt at hi
  split at hi
  · exact zz_br (fun _ hx hb k1 k2 => lv_if_gt hx hb d ht k1 k2) (fun c1 => k _ _ _ _ _ (hi.1 c1)) (fun c2 => n _ _ _ _ _ (hi.2 c2))
  · exact hi.elim
def ix_icmp_gt (T N : KT) (lo st : List Value) (h : AH) (c z : Nat) : Prop := match st with
  | .int y :: .int x :: st => (y < x → T lo st h c z) ∧ (¬ y < x → N lo st h c z)
  | _ => False
theorem sx_icmp_gt {Y : YY} {f : Nat} {Q : OO → AH → Prop} {pc : Nat} {N : KT} {off : Int} {t : Nat} {T : KT} (d : decode Y.2.1 pc = .ok (.if_icmp .gt off, 3)) (ht : (pc : Int) + off = (t : Int)) (k : zz_L Y f Q t T) (n : zz_L Y f Q (pc + 3) N) : zz_L Y f Q pc (ix_icmp_gt T N) := by
  intro lo st h c z hi
  unfold ix_icmp_gt at hi
  split at hi
  · exact zz_br (fun _ hx hb k1 k2 => lv_icmp_gt hx hb d ht k1 k2) (fun c1 => k _ _ _ _ _ (hi.1 c1)) (fun c2 => n _ _ _ _ _ (hi.2 c2))
  · exact hi.elim
def ix_if_le (T N : KT) (lo st : List Value) (h : AH) (c z : Nat) : Prop := match st with
  | .int x :: st => (x ≤ 0 → T lo st h c z) ∧ (¬ x ≤ 0 → N lo st h c z)
  | _ => False
theorem sx_if_le {Y : YY} {f : Nat} {Q : OO → AH → Prop} {pc : Nat} {N : KT} {off : Int} {t : Nat} {T : KT} (d : decode Y.2.1 pc = .ok (.ifCond .le off, 3)) (ht : (pc : Int) + off = (t : Int)) (k : zz_L Y f Q t T) (n : zz_L Y f Q (pc + 3) N) : zz_L Y f Q pc (ix_if_le T N) := by
  intro lo st h c z hi
  unfold ix_if_le at hi
  split at hi
  · exact zz_br (fun _ hx hb k1 k2 => lv_if_le hx hb d ht k1 k2) (fun c1 => k _ _ _ _ _ (hi.1 c1)) (fun c2 => n _ _ _ _ _ (hi.2 c2))
  · exact hi.elim
def ix_icmp_le (T N : KT) (lo st : List Value) (h : AH) (c z : Nat) : Prop := match st with
  | .int y :: .int x :: st => (x ≤ y → T lo st h c z) ∧ (¬ x ≤ y → N lo st h c z)
  | _ => False
theorem sx_icmp_le {Y : YY} {f : Nat} {Q : OO → AH → Prop} {pc : Nat} {N : KT} {off : Int} {t : Nat} {T : KT} (d : decode Y.2.1 pc = .ok (.if_icmp .le off, 3)) (ht : (pc : Int) + off = (t : Int)) (k : zz_L Y f Q t T) (n : zz_L Y f Q (pc + 3) N) : zz_L Y f Q pc (ix_icmp_le T N) := by
  intro lo st h c z hi
  unfold ix_icmp_le at hi
  split at hi
  · exact zz_br (fun _ hx hb k1 k2 => lv_icmp_le hx hb d ht k1 k2) (fun c1 => k _ _ _ _ _ (hi.1 c1)) (fun c2 => n _ _ _ _ _ (hi.2 c2))
  · exact hi.elim
theorem sx_goto {Y : YY} {f : Nat} {Q : OO → AH → Prop} {pc : Nat} {off : Int} {t : Nat} {T : KT} (d : decode Y.2.1 pc = .ok (.goto off, 3)) (ht : (pc : Int) + off = (t : Int)) (k : zz_L Y f Q t T) : zz_L Y f Q pc T := fun _ _ _ _ _ hi => zz_pure (fun _ hx hb _ _ _ k => lv_goto hx hb d ht k) (k _ _ _ _ _ hi)
def ix_ifnull (T N : KT) (lo st : List Value) (h : AH) (c z : Nat) : Prop := match st with
  | .ref r :: st => (r = 0 → T lo st h c z) ∧ (r ≠ 0 → N lo st h c z)
  | _ => False
theorem sx_ifnull {Y : YY} {f : Nat} {Q : OO → AH → Prop} {pc : Nat} {N : KT} {off : Int} {t : Nat} {T : KT} (d : decode Y.2.1 pc = .ok (.ifnull off, 3)) (ht : (pc : Int) + off = (t : Int)) (k : zz_L Y f Q t T) (n : zz_L Y f Q (pc + 3) N) : zz_L Y f Q pc (ix_ifnull T N) := by
  intro lo st h c z hi
  unfold ix_ifnull at hi
  split at hi
  · next r st =>
    cases r with
    | zero => exact zz_pure (fun _ hx hb _ _ _ k => lv_ifnullN hx hb d ht k) (k _ _ _ _ _ (hi.1 rfl))
    | succ r => exact zz_pure (fun _ hx hb _ _ _ k => lv_ifnull hx hb d k) (n _ _ _ _ _ (hi.2 (Nat.succ_ne_zero r)))
  · exact hi.elim
def ix_ifnonnull (T N : KT) (lo st : List Value) (h : AH) (c z : Nat) : Prop := match st with
  | .ref r :: st => (r ≠ 0 → T lo st h c z) ∧ (r = 0 → N lo st h c z)
  | _ => False
theorem sx_ifnonnull {Y : YY} {f : Nat} {Q : OO → AH → Prop} {pc : Nat} {N : KT} {off : Int} {t : Nat} {T : KT} (d : decode Y.2.1 pc = .ok (.ifnonnull off, 3)) (ht : (pc : Int) + off = (t : Int)) (k : zz_L Y f Q t T) (n : zz_L Y f Q (pc + 3) N) : zz_L Y f Q pc (ix_ifnonnull T N) := by
  intro lo st h c z hi
  unfold ix_ifnonnull at hi
  split at hi
  · next r st =>
    cases r with
    | zero => exact zz_pure (fun _ hx hb _ _ _ k => lv_ifnonnullN hx hb d k) (n _ _ _ _ _ (hi.2 rfl))
    | succ r => exact zz_pure (fun _ hx hb _ _ _ k => lv_ifnonnull hx hb d ht k) (k _ _ _ _ _ (hi.1 (Nat.succ_ne_zero r)))
  · exact hi.elim
/-- a switch: the cases in order, then the rest -/
def ix_sw (cs : List KT) (v : Int) (T : KT) (x : Int32) (lo st : List Value) (h : AH) (c z : Nat) : Prop := match cs with
  | [] => T lo st h c z
  | C :: cs => (x = Int32.ofInt v → C lo st h c z) ∧ (¬ x = Int32.ofInt v → ix_sw cs (v + 1) T x lo st h c z)
def ix_switch (cs : List KT) (v : Int) (T : KT) (lo st : List Value) (h : AH) (c z : Nat) : Prop := match st with
  | .int x :: st => ix_sw cs v T x lo st h c z
  | _ => False
theorem ix_sw_in {cs : List KT} {T : KT} {x : Int32} {lo st : List Value} {h : AH} {c z : Nat} : ∀ {v : Int} (j : Nat) (C : KT), ix_sw cs v T x lo st h c z → cs[j]? = some C → x = Int32.ofInt (v + j) → (∀ i, i < j → ¬ x = Int32.ofInt (v + i)) → C lo st h c z := by
  induction cs with
  | nil => intro v j C _ h2; cases h2
  | cons B cs ih =>
    intro v j C h1 h2 h3 h4
    cases j with
    | zero =>
      cases h2
      exact h1.1 (by rw [h3]; congr 1; omega)
    | succ j =>
      refine ih j C (h1.2 (by have := h4 0 (by omega); simpa using this)) (by simpa using h2) (by rw [h3]; congr 1; omega) (fun i hi => ?_)
      have := h4 (i + 1) (by omega)
      intro e
      exact this (by rw [e]; congr 1; omega)
theorem ix_sw_out {cs : List KT} {T : KT} {x : Int32} {lo st : List Value} {h : AH} {c z : Nat} : ∀ {v : Int}, ix_sw cs v T x lo st h c z → (∀ i : Nat, i < cs.length → ¬ x = Int32.ofInt (v + i)) → T lo st h c z := by
  induction cs with
  | nil => intro v h1 _; exact h1
  | cons B cs ih =>
    intro v h1 h2
    refine ih (h1.2 (by have := h2 0 (by simp); simpa using this)) (fun i hi => ?_)
    have := h2 (i + 1) (by simp; omega)
    intro e
    exact this (by rw [e]; congr 1; omega)
theorem sx_switch {Y : YY} {f : Nat} {Q : OO → AH → Prop} {pc : Nat} {dflt lo0 hi0 : Int} {offs : Array Int} {len t : Nat} {T : KT} {cs : List KT} (d : decode Y.2.1 pc = .ok (.tableswitch dflt lo0 hi0 offs, len)) (hr : -2147483648 ≤ lo0 ∧ hi0 < 2147483648 ∧ hi0 + 1 = lo0 + cs.length ∧ offs.size = cs.length) (ht : (pc : Int) + dflt = (t : Int)) (k : zz_L Y f Q t T)
    (hc : ∀ j : Nat, j < cs.length → ∃ (off : Int) (u : Nat) (C : KT), offs[j]? = some off ∧ cs[j]? = some C ∧ (pc : Int) + off = (u : Int) ∧ zz_L Y f Q u C) : zz_L Y f Q pc (ix_switch cs lo0 T) := by
  intro lo st h c z hi
  unfold ix_switch at hi
  split at hi
  · next x st =>
    have tx : ∀ i : Nat, i < cs.length → (Int32.ofInt (lo0 + i)).toInt = lo0 + i := fun i hi => by
      have hs : Int32.size = 4294967296 := rfl
      rw [Int32.toInt_ofInt, Int.bmod_eq_of_le (by omega) (by omega)]
    by_cases hin : ¬ x.toInt < lo0 ∧ ¬ hi0 < x.toInt
    · obtain ⟨off, u, C, h1, h2, h3, h4⟩ := hc (x.toInt - lo0).toNat (by omega)
      have hj : (x.toInt - lo0).toNat < cs.length := by omega
      refine zz_pure (fun _ hx hb _ _ _ k => lv_tableIn hx hb d hin.1 hin.2 h1 h3 k) (h4 _ _ _ _ _ (ix_sw_in _ C hi h2 ?_ (fun i hi2 e => ?_)))
      · apply Int32.toInt_inj.mp
        rw [tx _ hj]
        omega
      · have hil : i < cs.length := by omega
        rw [e, tx i hil] at hi2
        omega
    · refine zz_pure (fun _ hx hb _ _ _ k => lv_tableOut hx hb d (by omega) ht k) (k _ _ _ _ _ (ix_sw_out hi (fun i hi2 e => ?_)))
      apply hin
      rw [e, tx i hi2]
      omega
  · exact hi.elim
def ix_ireturn (Q : OO → AH → Prop) (_ st : List Value) (h : AH) (_ _ : Nat) : Prop := match st with
  | [.int x] => Q (.inl (some (.int x))) h
  | _ => False
def ix_zreturn (Q : OO → AH → Prop) (_ st : List Value) (h : AH) (_ _ : Nat) : Prop := match st with
  | [.int x] => (x = 0 ∨ x = 1) ∧ Q (.inl (some (.int x))) h
  | _ => False
def ix_lreturn (Q : OO → AH → Prop) (_ st : List Value) (h : AH) (_ _ : Nat) : Prop := match st with
  | [.long x] => Q (.inl (some (.long x))) h
  | _ => False
def ix_areturn (Q : OO → AH → Prop) (_ st : List Value) (h : AH) (_ _ : Nat) : Prop := match st with
  | [.ref x] => Q (.inl (some (.ref x))) h
  | _ => False
def ix_return (Q : OO → AH → Prop) (_ st : List Value) (h : AH) (_ _ : Nat) : Prop := match st with
  | [] => Q (.inl none) h
  | _ => False
theorem sx_ireturn {Y : YY} {f : Nat} {Q : OO → AH → Prop} {pc : Nat} (d : decode Y.2.1 pc = .ok (.ireturn, 1)) (hr : Y.2.2.2.1 = some .int) : zz_L Y f Q pc (ix_ireturn Q) := by
  intro lo st h c z hi
  unfold ix_ireturn at hi
  split at hi
  · intro D sa base p l e R s m args below meth cd H locs cells slots ls A
    obtain ⟨F, -, K, hb, Z, S, L, h1, h2⟩ := A
    obtain ⟨fx, fb, fm, fo, fw, fr, fl, fn, ft, fe⟩ := F
    refine W.widen (k := R.cells) (n := R.slots) (by omega) (by omega) (vx_ret ?_)
    exact W.iret fx fb (fr.trans hr) (fun t ht _ => ⟨some (.int _), h, rfl, hi, by rw [ht]; exact Z, S.F ht⟩) S.2.2 d fl
  · exact hi.elim
theorem sx_zreturn {Y : YY} {f : Nat} {Q : OO → AH → Prop} {pc : Nat} (d : decode Y.2.1 pc = .ok (.ireturn, 1)) (hr : Y.2.2.2.1 = some .boolean) : zz_L Y f Q pc (ix_zreturn Q) := by
  intro lo st h c z hi
  unfold ix_zreturn at hi
  split at hi
  · intro D sa base p l e R s m args below meth cd H locs cells slots ls A
    obtain ⟨F, -, K, hb, Z, S, L, h1, h2⟩ := A
    obtain ⟨fx, fb, fm, fo, fw, fr, fl, fn, ft, fe⟩ := F
    refine W.widen (k := R.cells) (n := R.slots) (by omega) (by omega) (vx_ret ?_)
    exact W.zret fx fb (fr.trans hr) (by rcases hi.1 with rfl | rfl <;> rfl) (fun t ht _ => ⟨some (.int _), h, rfl, hi.2, by rw [ht]; exact Z, S.F ht⟩) S.2.2 d fl
  · exact hi.elim
theorem sx_lreturn {Y : YY} {f : Nat} {Q : OO → AH → Prop} {pc : Nat} (d : decode Y.2.1 pc = .ok (.lreturn, 1)) (hr : Y.2.2.2.1 = some .long) : zz_L Y f Q pc (ix_lreturn Q) := by
  intro lo st h c z hi
  unfold ix_lreturn at hi
  split at hi
  · intro D sa base p l e R s m args below meth cd H locs cells slots ls A
    obtain ⟨F, -, K, hb, Z, S, L, h1, h2⟩ := A
    obtain ⟨fx, fb, fm, fo, fw, fr, fl, fn, ft, fe⟩ := F
    refine W.widen (k := R.cells) (n := R.slots) (by omega) (by omega) (vx_ret ?_)
    exact W.lret fx fb (fr.trans hr) (fun t ht _ => ⟨some (.long _), h, rfl, hi, by rw [ht]; exact Z, S.F ht⟩) S.2.2 d fl
  · exact hi.elim
theorem ah_rrN (r : Nat) : ah_rr r = .null ∨ ∃ a, ah_rr r = .ref a := by
  cases r with
  | zero => exact Or.inl rfl
  | succ n => exact Or.inr ⟨n, rfl⟩
theorem sx_areturn {Y : YY} {f : Nat} {Q : OO → AH → Prop} {pc : Nat} {rt : FieldType} (d : decode Y.2.1 pc = .ok (.areturn, 1)) (hr : Y.2.2.2.1 = some rt) (hrt : (∃ n, rt = .object n) ∨ ∃ t, rt = .array t) : zz_L Y f Q pc (ix_areturn Q) := by
  intro lo st h c z hi
  unfold ix_areturn at hi
  split at hi
  · intro D sa base p l e R s m args below meth cd H locs cells slots ls A
    obtain ⟨F, -, K, hb, Z, S, L, h1, h2⟩ := A
    obtain ⟨fx, fb, fm, fo, fw, fr, fl, fn, ft, fe⟩ := F
    refine W.widen (k := R.cells) (n := R.slots) (by omega) (by omega) (vx_ret ?_)
    exact W.aret fx fb (fr.trans hr) hrt (by first | exact ah_rrN _ | skip) (fun t ht _ => ⟨some (.ref _), h, rfl, hi, by rw [ht]; exact Z, S.F ht⟩) S.2.2 d fl
  · exact hi.elim
theorem sx_return {Y : YY} {f : Nat} {Q : OO → AH → Prop} {pc : Nat} (d : decode Y.2.1 pc = .ok (.return_, 1)) (hr : Y.2.2.2.1 = none) : zz_L Y f Q pc (ix_return Q) := by
  intro lo st h c z hi
  unfold ix_return at hi
  split at hi
  · intro D sa base p l e R s m args below meth cd H locs cells slots ls A
    obtain ⟨F, -, K, hb, Z, S, L, h1, h2⟩ := A
    obtain ⟨fx, fb, fm, fo, fw, fr, fl, fn, ft, fe⟩ := F
    refine W.widen (k := R.cells) (n := R.slots) (by omega) (by omega) (vx_ret ?_)
    exact W.vret fx fb (fr.trans hr) (fun t ht _ => ⟨none, h, rfl, hi, by rw [ht]; exact Z, S.F ht⟩) S.2.2 d fl
  · exact hi.elim
