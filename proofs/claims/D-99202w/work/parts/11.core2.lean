set_option maxRecDepth 100000
def zz_nc : List (String × String) := [("[B", "[I"), ("[B", "[S"), ("[I", "[B"), ("[I", "[S"), ("[J", "[B"), ("[J", "[I"), ("[J", "[S"), ("[LIslandCall$House;", "[B"), ("[LIslandCall$House;", "[I"), ("[LIslandCall$House;", "[S"), ("[LIslandCall$Step;", "[B"), ("[LIslandCall$Step;", "[I"), ("[LIslandCall$Step;", "[S"), ("[LIslandCall$Tray;", "[B"), ("[LIslandCall$Tray;", "[I"), ("[LIslandCall$Tray;", "[S"), ("[S", "[B"), ("[S", "[I"), ("java/lang/NegativeArraySizeException", "IslandCall$Refused"), ("java/lang/ArrayIndexOutOfBoundsException", "IslandCall$Refused"), ("IslandCall$Refused", "java/lang/NegativeArraySizeException"), ("IslandCall$Refused", "java/lang/ArrayIndexOutOfBoundsException"), ("IslandCall$Refused", "java/lang/IndexOutOfBoundsException")]
def zz_strN : Nat := 23
def zz_strL : List Nat := [5, 5, 5, 4, 4, 5, 5, 6, 7, 5, 4, 4, 3, 4, 4, 4, 5, 4, 3, 4, 3, 5, 121]
def zz_strB : List (List Int32) := [[104, 111, 108, 100, 115], [112, 108, 97, 110, 107], [104, 97, 98, 105, 116], [111, 100, 100, 115], [115, 105, 103, 110], [112, 117, 108, 108, 115], [115, 104, 111, 119, 110], [112, 101, 114, 115, 111, 110], [97, 103, 97, 105, 110, 115, 116], [98, 108, 105, 110, 100], [119, 104, 101, 110], [108, 111, 111, 112], [101, 110, 100], [99, 97, 108, 108], [115, 104, 111, 119], [104, 105, 100, 101], [98, 111, 97, 114, 100], [115, 119, 97, 121], [97, 110, 121], [115, 116, 111, 112], [111, 117, 116], [115, 104, 111, 119, 115], [32, 112, 108, 97, 110, 107, 32, 104, 97, 98, 105, 116, 32, 111, 100, 100, 115, 32, 115, 105, 103, 110, 32, 112, 101, 114, 115, 111, 110, 32, 98, 108, 105, 110, 100, 32, 112, 117, 108, 108, 115, 32, 115, 104, 111, 119, 110, 32, 104, 111, 108, 100, 115, 32, 111, 117, 116, 32, 97, 103, 97, 105, 110, 115, 116, 32, 99, 97, 108, 108, 32, 115, 104, 111, 119, 32, 104, 105, 100, 101, 32, 98, 111, 97, 114, 100, 32, 115, 119, 97, 121, 32, 97, 110, 121, 32, 119, 104, 101, 110, 32, 108, 111, 111, 112, 32, 101, 110, 100, 32, 115, 116, 111, 112, 32, 115, 104, 111, 119, 115, 32]]
def zz_strR : List (String × Nat × String × Nat) := [("IslandCall$Reader", 101, "holds", 0), ("IslandCall$Reader", 103, "plank", 1), ("IslandCall$Reader", 105, "habit", 2), ("IslandCall$Reader", 107, "odds", 3), ("IslandCall$Reader", 109, "sign", 4), ("IslandCall$Reader", 111, "pulls", 5), ("IslandCall$Reader", 113, "shown", 6), ("IslandCall$Reader", 115, "person", 7), ("IslandCall$Reader", 117, "against", 8), ("IslandCall$Reader", 119, "blind", 9), ("IslandCall$Reader", 121, "when", 10), ("IslandCall$Reader", 123, "loop", 11), ("IslandCall$Reader", 125, "end", 12), ("IslandCall$Reader", 83, "call", 13), ("IslandCall$Reader", 85, "show", 14), ("IslandCall$Reader", 87, "hide", 15), ("IslandCall$Reader", 89, "board", 16), ("IslandCall$Reader", 91, "sway", 17), ("IslandCall$Reader", 93, "any", 18), ("IslandCall$Reader", 95, "stop", 19), ("IslandCall$Reader", 97, "out", 20), ("IslandCall$Reader", 99, "shows", 21), ("IslandCallModel", 171, " plank habit odds sign person blind pulls shown holds out against call show hide board sway any when loop end stop shows ", 22)]
/-! WHAT HOLDS ALL THROUGH A RUN, at a state U over the heap H -/
def zz_KX (_ : va_G) (sa : Nat → Nat) (base : Nat) (U : State) (H : Heap) : Prop :=
  (va_AO "IslandCall$Tray" U ∧ va_AO "IslandCall$House" U ∧ va_AO "IslandCall$Step" U) ∧
  (∀ q ∈ zz_nc, va_Nc q.1 q.2 U) ∧
  vk_S zz_strN zz_strL zz_strB sa (fun i => sa (100 + i)) (zz_A base) U H ∧
  (∀ q ∈ zz_strR, vk_R q.1 q.2.1 q.2.2.1 (sa q.2.2.2) U) ∧
  vx_Zq "java/lang/Throwable" "UNASSIGNED_STACK" "[Ljava/lang/StackTraceElement;" (zz_A base) U H ∧
  vx_Zq "java/lang/Throwable" "SUPPRESSED_SENTINEL" "Ljava/util/List;" (zz_A base) U H ∧
  va_Z "java/lang/String" "COMPACT_STRINGS" "Z" (.int 1) (zz_A base) U H ∧
  va_Zq "jdk/internal/util/Preconditions" "SIOOBE_FORMATTER" "Ljava/util/function/BiFunction;" (zz_A base) U H
def zz_KB (D : va_G) (sa : Nat → Nat) (base : Nat) (U : State) (H : Heap) : Prop :=
  va_K D zz_cl (zz_tys D) U ∧
  (∀ (a : String) (i : Nat) (b n d g : String), Cond.fieldLinkNest a i b n d g ∈ lw_tbl → va_Nw (.fieldLinkNest a i b n d g) U) ∧
  (∀ (a : String) (i : Nat) (x : MethodName) (g : String), Cond.methodLinkNest a i x g ∈ lw_tbl → va_Nw (.methodLinkNest a i x g) U) ∧
  (∀ C T : String, Cond.castable C T ∈ lw_tbl → va_Nw (.castable C T) U) ∧
  (∀ x : MethodName, Cond.declares x ∈ lw_tbl → va_Nw (.declares x) U) ∧
  zz_KX D sa base U H
theorem zz_KX.warm {D : va_G} {sa : Nat → Nat} {base : Nat} {s U : State} {H H1 : Heap} (K : zz_KX D sa base s H) (hW : s.WarmedH U.vm) (hq : ∀ a : Nat, a < H.size → ¬ zz_A base a → H1[a]? = H[a]?) : zz_KX D sa base U H1 := by
  obtain ⟨⟨k1, k2, k3⟩, k4, k5, k6, k7, k8, k9, k10⟩ := K
  have hv : s.vm.Alike U.vm := hW.alike
  exact ⟨⟨k1.moved hv, k2.moved hv, k3.moved hv⟩, fun q hm => (k4 q hm).moved hv, (k5.moved hv).kept hq, fun q hm => vk_R.warm hW (k6 q hm), (k7.moved hv).kept hq, (k8.moved hv).kept hq, (k9.moved hv).kept hq, (k10.moved hv).kept hq⟩
theorem zz_KB.warm {D : va_G} {sa : Nat → Nat} {base : Nat} {s U : State} {H H1 : Heap} (K : zz_KB D sa base s H) (hW : s.WarmedH U.vm) (hq : ∀ a : Nat, a < H.size → ¬ zz_A base a → H1[a]? = H[a]?) : zz_KB D sa base U H1 := by
  obtain ⟨k1, k2, k3, k4, k5, k6⟩ := K
  exact ⟨va_K.moved hW.alike k1, fun a i b n d g hm => va_Nw.warmF hW (k2 a i b n d g hm), fun a i x g hm => va_Nw.warmM hW (k3 a i x g hm), fun C T hm => va_Nw.warmC hW (k4 C T hm), fun x hm => va_Nw.warmD hW (k5 x hm), k6.warm hW hq⟩
theorem zz_KX.same {D : va_G} {sa : Nat → Nat} {base : Nat} {s U : State} {H : Heap} (K : zz_KX D sa base s H) (hv : s.vm = U.vm) : zz_KX D sa base U H := by
  obtain ⟨⟨k1, k2, k3⟩, k4, k5, k6, k7, k8, k9, k10⟩ := K
  have ha : s.vm.Alike U.vm := hv ▸ Vm.Alike.refl s.vm
  exact ⟨⟨k1.moved ha, k2.moved ha, k3.moved ha⟩, fun q hm => (k4 q hm).moved ha, k5.moved ha, fun q hm => vk_R.same hv.symm (k6 q hm), k7.moved ha, k8.moved ha, k9.moved ha, k10.moved ha⟩
theorem zz_KB.same {D : va_G} {sa : Nat → Nat} {base : Nat} {s U : State} {H : Heap} (K : zz_KB D sa base s H) (hv : s.vm = U.vm) : zz_KB D sa base U H := by
  obtain ⟨k1, k2, k3, k4, k5, k6⟩ := K
  have ha : s.vm.Alike U.vm := hv ▸ Vm.Alike.refl s.vm
  exact ⟨va_K.moved ha k1, fun a i b n d g hm => va_Nw.same rfl hv (k2 a i b n d g hm), fun a i x g hm => va_Nw.same rfl hv (k3 a i x g hm), fun C T hm => va_Nw.same rfl hv (k4 C T hm), fun x hm => va_Nw.same rfl hv (k5 x hm), k6.same hv⟩
/-! A METHOD: its name, code, number of slots, answer, handlers -/
abbrev YY : Type := MethodName × ByteArray × Nat × Option FieldType × List (Nat × Nat × Nat × Nat)
def zz_ws (Y : YY) : List Cond := match Y.2.2.2.2 with
  | [] => Cond.code Y.1 Y.2.1 Y.2.2.1 Y.2.2.2.1 :: lw_all
  | q :: hh => Cond.codeWith Y.1 Y.2.1 Y.2.2.1 Y.2.2.2.1 (q :: hh) :: lw_all
/-- an outcome: what is returned; or the kind of what is thrown, and its ref -/
abbrev OO : Type := Option Value ⊕ (Nat × Nat)
def zz_exn (k : Nat) : String := match k with
  | 1 => "IslandCall$Refused"
  | 2 => "IslandCall$Bad"
  | 3 => "java/lang/ArrayIndexOutOfBoundsException"
  | _ => "java/lang/NegativeArraySizeException"
def zz_Pc (D : va_G) (sa : Nat → Nat) (base : Nat) (as : List Value) (h : AH) : Array Value → State → Prop := fun a U =>
  a = (as.map (ah_v sa)).toArray ∧ zz_Rep D base h U.heap ∧ zz_KB D sa base U U.heap ∧ base ≤ U.heap.size
def zz_Qc (D : va_G) (sa : Nat → Nat) (base : Nat) (Q : OO → AH → Prop) : Array Value → State → Outcome → State → Prop := fun _ st o t =>
  ∃ (v : Option Value) (h' : AH), o = .returned (v.map (ah_v sa)) ∧ Q (.inl v) h' ∧ zz_Rep D base h' t.heap ∧ va_F (zz_A base) st t
def zz_XC (D : va_G) (base : Nat) (Q : OO → AH → Prop) : Addr → String → State → State → Prop := fun q E st t =>
  ∃ (ek : Nat) (h' : AH), E = zz_exn ek ∧ Q (.inr (ek, q + 1)) h' ∧ zz_Rep D base h' t.heap ∧ va_F (zz_A base) st t
def zz_rm (f c z : Nat) : Room := { frames := f, cells := c, slots := z, locals := 48 * f }
/-- a method's contract: from the args and the heap h it ends so that Q holds of its outcome and the heap behind it; f frames below, c cells, z slots at most -/
def zz_Sp (Y : YY) (f c z : Nat) (as : List Value) (h : AH) (Q : OO → AH → Prop) : Prop :=
  ∀ (l : Launch) (D : va_G) (sa : Nat → Nat) (base : Nat), l.stackTraces = false →
    vx_Met l Y.1 (zz_ws Y) (zz_rm f c z) (zz_Pc D sa base as h) (zz_Qc D sa base Q) (zz_XC D base Q) c z (zz_A base)
def zz_Fix (Y : YY) (p : Program) (l : Launch) (s : State) (m : MethodId) (args : Array Value) (meth : Method) (c : Code) : Prop :=
  p.tables.exec = Jvm.exec ∧ c.code = Y.2.1 ∧ c.maxLocals = Y.2.2.1 ∧ s.vm.findClass Y.1.cls = some m.cls ∧ (∀ w ∈ lw_all, w.before args s = true) ∧ meth.sig.returnType = Y.2.2.2.1 ∧ meth.locks = false ∧ meth.name = Y.1.name ∧ l.stackTraces = false ∧ c.exceptionTable.toList = tableOf Y.2.2.2.2
/-- the slots that are set, as the kit lists them -/
def ah_lo (sa : Nat → Nat) : Nat → List Value → List (Nat × Value)
  | _, [] => []
  | i, v :: t => bif ah_ok v then (i, ah_v sa v) :: ah_lo sa (i + 1) t else ah_lo sa (i + 1) t
theorem ah_lo_mem {sa : Nat → Nat} {j : Nat} {w : Value} : ∀ (lo : List Value) (i : Nat), (j, w) ∈ ah_lo sa i lo ↔ ∃ (k : Nat) (v : Value), j = i + k ∧ lo[k]? = some v ∧ ah_ok v = true ∧ w = ah_v sa v := by
  intro lo
  induction lo with
  | nil => intro i; simp [ah_lo]
  | cons v t ih =>
    intro i
    have key : (j, w) ∈ ah_lo sa i (v :: t) ↔ (ah_ok v = true ∧ (j, w) = (i, ah_v sa v)) ∨ (j, w) ∈ ah_lo sa (i + 1) t := by
      cases hv : ah_ok v <;> simp [ah_lo, hv]
    rw [key, ih (i + 1)]
    constructor
    · rintro (⟨h1, h2⟩ | ⟨k, u, h1, h2, h3, h4⟩)
      · cases h2
        exact ⟨0, v, rfl, rfl, h1, rfl⟩
      · exact ⟨k + 1, u, by omega, by simpa using h2, h3, h4⟩
    · rintro ⟨k, u, h1, h2, h3, h4⟩
      cases k with
      | zero =>
        have hu : v = u := by simpa using h2
        subst hu
        exact Or.inl ⟨h3, by rw [h1, h4]; rfl⟩
      | succ k => exact Or.inr ⟨k, u, by omega, by simpa using h2, h3, h4⟩
def ah_kl (i : Nat) (lo : List Value) : List Value := match i with
  | 0 => lo
  | i + 1 => match lo[i]? with
    | some (.long _) => lo.set i .null
    | _ => lo
def ah_st1 (i : Nat) (v : Value) (lo : List Value) : List Value := (ah_kl i lo).set i v
def ah_st2 (i : Nat) (v : Value) (lo : List Value) : List Value := ((ah_kl i lo).set i v).set (i + 1) .null
theorem ah_kl_at {i k : Nat} {lo : List Value} {v : Value} (h : (ah_kl i lo)[k]? = some v) (hv : ah_ok v = true) : lo[k]? = some v ∧ ¬ (k + 1 = i ∧ ah_cat v = 2) := by
  unfold ah_kl at h
  cases i with
  | zero => exact ⟨h, by omega⟩
  | succ i =>
    dsimp only at h
    cases hi : lo[i]? with
    | none =>
      rw [hi] at h
      refine ⟨h, fun c => ?_⟩
      have e : k = i := by omega
      rw [e, hi] at h
      cases h
    | some u =>
      rw [hi] at h
      by_cases hk : k = i
      · subst hk
        cases u with
        | long x =>
          have h' : (lo.set k .null)[k]? = some v := h
          rw [List.getElem?_set_self (List.getElem?_eq_some_iff.mp hi).1] at h'
          cases h'
          cases hv
        | _ =>
          have h' : lo[k]? = some v := h
          rw [hi] at h'
          cases h'
          exact ⟨hi, fun c => by simp [ah_cat] at c⟩
      · cases u with
        | long x =>
          have h' : (lo.set i .null)[k]? = some v := h
          rw [List.getElem?_set_ne (Ne.symm hk)] at h'
          exact ⟨h', by omega⟩
        | _ => exact ⟨h, by omega⟩
theorem lv_mono {ls : Array Slot} {nL : Nat} {l l' : List (Nat × Value)} (h : lv_has ls nL l) (hl : ∀ q ∈ l', q ∈ l) : lv_has ls nL l' := ⟨h.1, h.2.1, fun q hq => h.2.2 q (hl q hq)⟩
theorem ah_st1_has {ls : Array Slot} {nL : Nat} {sa : Nat → Nat} {lo : List Value} {i : Nat} {v : Value} (h : lv_has ls nL ((i, ah_v sa v) :: (ah_lo sa 0 lo).filter (fun q => !(q.1 == i) && !(q.1 + 1 == i && q.2.category == 2)))) : lv_has ls nL (ah_lo sa 0 (ah_st1 i v lo)) := by
  refine lv_mono h fun q hq => ?_
  obtain ⟨j, w⟩ := q
  obtain ⟨k, u, e1, e2, e3, e4⟩ := (ah_lo_mem _ _).mp hq
  unfold ah_st1 at e2
  by_cases hk : k = i
  · have hlt : k < ((ah_kl i lo).set i v).length := (List.getElem?_eq_some_iff.mp e2).1
    rw [List.length_set] at hlt
    subst hk
    rw [List.getElem?_set_self hlt] at e2
    cases e2
    rw [e1, e4, Nat.zero_add]
    exact List.mem_cons_self
  · rw [List.getElem?_set_ne (Ne.symm hk)] at e2
    obtain ⟨g1, g2⟩ := ah_kl_at e2 e3
    refine List.mem_cons_of_mem _ (List.mem_filter.mpr ⟨(ah_lo_mem _ _).mpr ⟨k, u, e1, g1, e3, e4⟩, ?_⟩)
    rw [e1, e4, ah_v_cat]
    simp only [Nat.zero_add, Bool.and_eq_true, Bool.not_eq_true', beq_eq_false_iff_ne, ne_eq, Bool.and_eq_false_iff]
    refine ⟨hk, ?_⟩
    by_cases c : k + 1 = i
    · exact Or.inr fun c2 => g2 ⟨c, c2⟩
    · exact Or.inl c
theorem ah_st2_has {ls : Array Slot} {nL : Nat} {sa : Nat → Nat} {lo : List Value} {i : Nat} {v : Value} (h : lv_has ls nL ((i, ah_v sa v) :: (ah_lo sa 0 lo).filter (fun q => !(q.1 == i) && (!(q.1 == i + 1) && !(q.1 + 1 == i && q.2.category == 2))))) : lv_has ls nL (ah_lo sa 0 (ah_st2 i v lo)) := by
  refine lv_mono h fun q hq => ?_
  obtain ⟨j, w⟩ := q
  obtain ⟨k, u, e1, e2, e3, e4⟩ := (ah_lo_mem _ _).mp hq
  unfold ah_st2 at e2
  by_cases hk1 : k = i + 1
  · have hlt := (List.getElem?_eq_some_iff.mp e2).1
    rw [List.length_set] at hlt
    subst hk1
    rw [List.getElem?_set_self hlt] at e2
    cases e2
    cases e3
  · rw [List.getElem?_set_ne (Ne.symm hk1)] at e2
    by_cases hk : k = i
    · have hlt : k < ((ah_kl i lo).set i v).length := (List.getElem?_eq_some_iff.mp e2).1
      rw [List.length_set] at hlt
      subst hk
      rw [List.getElem?_set_self hlt] at e2
      cases e2
      rw [e1, e4, Nat.zero_add]
      exact List.mem_cons_self
    · rw [List.getElem?_set_ne (Ne.symm hk)] at e2
      obtain ⟨g1, g2⟩ := ah_kl_at e2 e3
      refine List.mem_cons_of_mem _ (List.mem_filter.mpr ⟨(ah_lo_mem _ _).mpr ⟨k, u, e1, g1, e3, e4⟩, ?_⟩)
      rw [e1, e4, ah_v_cat]
      simp only [Nat.zero_add, Bool.and_eq_true, Bool.not_eq_true', beq_eq_false_iff_ne, ne_eq, Bool.and_eq_false_iff]
      refine ⟨hk, hk1, ?_⟩
      by_cases c : k + 1 = i
      · exact Or.inr fun c2 => g2 ⟨c, c2⟩
      · exact Or.inl c
theorem ah_lo_at {ls : Array Slot} {nL : Nat} {sa : Nat → Nat} {lo : List Value} {i : Nat} {v : Value} (h : lv_has ls nL (ah_lo sa 0 lo)) (hv : lo[i]? = some v) (ho : ah_ok v = true) : ls[i]? = some (.val (ah_v sa v)) := h.2.2 (i, ah_v sa v) ((ah_lo_mem _ _).mpr ⟨i, v, (Nat.zero_add i).symm, hv, ho, rfl⟩)
/-! THE JUDGEMENT: method Y at pc, slots lo, stack st, heap h, c cells and z slots still to be had -/
abbrev KT : Type := List Value → List Value → AH → Nat → Nat → Prop
def zz_W (D : va_G) (sa : Nat → Nat) (base : Nat) (Q : OO → AH → Prop) (p : Program) (l : Launch) (e : Env) (R : Room) (s : State) (m : MethodId) (args : Array Value) (below : List Frame) (meth : Method) (cd : Code) (H : Heap) (locs : List Loc) (cells slots : Nat) (g : JFrame) : Prop :=
  W p l e R s m args below meth cd H locs cells slots (vx_MQ below (zz_Qc D sa base Q) (zz_XC D base Q) args s R.cells R.slots (zz_A base)) g
def zz_At (Y : YY) (f : Nat) (D : va_G) (sa : Nat → Nat) (base : Nat) (p : Program) (l : Launch) (R : Room) (s : State) (m : MethodId) (args : Array Value) (meth : Method) (cd : Code) (H : Heap) (locs : List Loc) (cells slots : Nat) (ls : Array Slot) (lo : List Value) (h : AH) (c z : Nat) : Prop :=
  zz_Fix Y p l s m args meth cd ∧ (R.frames = f ∧ R.locals = 48 * f) ∧ zz_KB D sa base s s.heap ∧ base ≤ s.heap.size ∧ zz_Rep D base h H ∧ va_S (zz_A base) s.heap H locs ∧ lv_has ls Y.2.2.1 (ah_lo sa 0 lo) ∧ cells + c ≤ R.cells ∧ slots + z ≤ R.slots
def zz_G (Y : YY) (f : Nat) (Q : OO → AH → Prop) (pc : Nat) : KT := fun lo st h c z =>
  ∀ (D : va_G) (sa : Nat → Nat) (base : Nat) (p : Program) (l : Launch) (e : Env) (R : Room) (s : State) (m : MethodId) (args : Array Value) (below : List Frame) (meth : Method) (cd : Code) (H : Heap) (locs : List Loc) (cells slots : Nat) (ls : Array Slot),
    zz_At Y f D sa base p l R s m args meth cd H locs cells slots ls lo h c z → zz_W D sa base Q p l e R s m args below meth cd H locs cells slots (F0 m pc ls (st.map (ah_v sa)))
/-- r is thrown at pc -/
def zz_X (Y : YY) (f : Nat) (Q : OO → AH → Prop) (pc : Nat) : Nat → Nat → List Value → AH → Nat → Nat → Prop := fun ek r lo h c z =>
  ∀ (D : va_G) (sa : Nat → Nat) (base : Nat) (p : Program) (l : Launch) (e : Env) (R : Room) (s : State) (m : MethodId) (args : Array Value) (below : List Frame) (meth : Method) (cd : Code) (H : Heap) (locs : List Loc) (cells slots : Nat) (ls : Array Slot) (st : List Value) (ce : Cell) (q : Addr),
    zz_At Y f D sa base p l R s m args meth cd H locs cells slots ls lo h c z → r = q + 1 → H[q]? = some ce → ce.vm = .none → s.vm.findClass (zz_exn ek) = some ce.cls →
    vx_W p l e R s m args below meth cd H locs cells slots (vx_MQ below (zz_Qc D sa base Q) (zz_XC D base Q) args s R.cells R.slots (zz_A base)) (F0 m pc ls st) q
def zz_L (Y : YY) (f : Nat) (Q : OO → AH → Prop) (pc : Nat) (N : KT) : Prop := ∀ lo st h c z, N lo st h c z → zz_G Y f Q pc lo st h c z
def zz_LX (Y : YY) (f : Nat) (Q : OO → AH → Prop) (pc : Nat) (X : Nat → Nat → List Value → AH → Nat → Nat → Prop) : Prop := ∀ ek r lo h c z, X ek r lo h c z → zz_X Y f Q pc ek r lo h c z
theorem zz_L.rf {Y : YY} {f : Nat} {Q : OO → AH → Prop} {pc : Nat} : zz_L Y f Q pc (zz_G Y f Q pc) := fun _ _ _ _ _ k => k
theorem zz_L.eq {Y : YY} {f : Nat} {Q : OO → AH → Prop} {pc pc' : Nat} {N : KT} (h : zz_L Y f Q pc' N) (e : pc' = pc) : zz_L Y f Q pc N := e ▸ h
/-- nothing is caught here -/
def ix_out (Q : OO → AH → Prop) : Nat → Nat → List Value → AH → Nat → Nat → Prop := fun ek r _ h _ _ => Q (.inr (ek, r)) h
theorem sx_out {Y : YY} {f : Nat} {Q : OO → AH → Prop} {pc : Nat} (hout : (tableOf Y.2.2.2.2).all (fun x => !covers x pc) = true) : zz_LX Y f Q pc (ix_out Q) := by
  intro ek r lo h c z hi D sa base p l e R s m args below meth cd H locs cells slots ls st ce q A hr hce hv hcl
  subst hr
  obtain ⟨F, -, K, hb, Z, S, L, h1, h2⟩ := A
  obtain ⟨fx, fb, fm, fo, fw, fr, fl, fn, ft, fe⟩ := F
  refine vx_out (fun x hx => ?_) fl hce hv hcl (fun t ht _ => ⟨ek, h, rfl, hi, by rw [ht]; exact Z, S.F ht⟩) S.2.2 (by omega) (by omega)
  rw [fe] at hx
  have h9 := List.all_eq_true.mp hout x hx
  cases hcv : covers x pc with
  | false => rfl
  | true =>
    rw [hcv] at h9
    cases h9
/-- the thrown is caught by the handler at hp -/
theorem sx_catch {Y : YY} {f : Nat} {Q : OO → AH → Prop} {pc ek0 : Nat} {nm : String} (pre : List ExceptionTableEntry) (x : ExceptionTableEntry) (suf : List ExceptionTableEntry) (hsplit : tableOf Y.2.2.2.2 = pre ++ x :: suf)
    (hpass : ∀ y ∈ pre, covers y pc = false ∨ (y.catchType ≠ 0 ∧ ∃ n2 : String, Cond.classLink Y.1.cls y.catchType n2 ∈ lw_all ∧ (zz_exn ek0, n2) ∈ zz_nc)) (hx : covers x pc = true) (h0 : x.catchType ≠ 0) (hl : Cond.classLink Y.1.cls x.catchType nm ∈ lw_all) (hc : Cond.castable (zz_exn ek0) nm ∈ lw_tbl)
    {N : KT} (n : zz_L Y f Q x.handlerPc N) : zz_LX Y f Q pc (fun ek r lo h c z => ek = ek0 ∧ N lo [.ref r] h c z) := by
  intro ek r lo h c z hi D sa base p l e R s m args below meth cd H locs cells slots ls st ce q A hr hce hv hcl
  obtain ⟨rfl, hi⟩ := hi
  subst hr
  have k := n _ _ _ _ _ hi D sa base p l e R s m args below meth cd H locs cells slots ls A
  obtain ⟨F, -, K, hb, Z, S, L, h1, h2⟩ := A
  obtain ⟨fx, fb, fm, fo, fw, fr, fl, fn, ft, fe⟩ := F
  exact vx_catch fo pre x suf (by rw [fe]; exact hsplit) (fun y hy => by
    rcases hpass y hy with g | ⟨g1, n2, g2, g3⟩
    · exact Or.inl g
    · exact Or.inr ⟨g1, n2, fw _ g2, K.2.2.2.2.2.2.1 _ g3⟩) hx h0 (fw _ hl) (va_Nw.use rfl (K.2.2.2.1 _ _ hc)) hce hv hcl k
def ix_or (X1 X2 : Nat → Nat → List Value → AH → Nat → Nat → Prop) : Nat → Nat → List Value → AH → Nat → Nat → Prop := fun ek r lo h c z => X1 ek r lo h c z ∨ X2 ek r lo h c z
theorem sx_or {Y : YY} {f : Nat} {Q : OO → AH → Prop} {pc : Nat} {X1 X2 : Nat → Nat → List Value → AH → Nat → Nat → Prop} (h1 : zz_LX Y f Q pc X1) (h2 : zz_LX Y f Q pc X2) : zz_LX Y f Q pc (ix_or X1 X2) := fun ek r lo h c z hi => hi.elim (h1 _ _ _ _ _ _) (h2 _ _ _ _ _ _)
