set_option maxRecDepth 100000
/-! CALLS -/
def ah_sum : List Value → Nat
  | [] => 0
  | v :: t => ah_cat v + ah_sum t
theorem ah_sum_eq (sa : Nat → Nat) (l : List Value) : ((l.map (ah_v sa)).map fun v => v.category).sum = ah_sum l := by
  induction l with
  | nil => rfl
  | cons v t ih =>
    simp only [List.map_cons, List.sum_cons, ih, ah_v_cat, ah_sum]
/-- n args off the stack, in the order of their places -/
def ix_take (n : Nat) (st : List Value) (K : List Value → List Value → Prop) : Prop := match n, st with
  | 0, st => K [] st
  | 1, a :: st => K [a] st
  | 2, b :: a :: st => K [a, b] st
  | 3, d :: b :: a :: st => K [a, b, d] st
  | 4, e :: d :: b :: a :: st => K [a, b, d, e] st
  | 5, g :: e :: d :: b :: a :: st => K [a, b, d, e, g] st
  | 6, i :: g :: e :: d :: b :: a :: st => K [a, b, d, e, g, i] st
  | _, _ => False
theorem ix_take_ok {n : Nat} {st : List Value} {K : List Value → List Value → Prop} (h : ix_take n st K) : ∃ as rest, as.length = n ∧ st = as.reverse ++ rest ∧ K as rest := by
  unfold ix_take at h
  split at h
  · exact ⟨_, _, rfl, rfl, h⟩
  · exact ⟨_, _, rfl, rfl, h⟩
  · exact ⟨_, _, rfl, rfl, h⟩
  · exact ⟨_, _, rfl, rfl, h⟩
  · exact ⟨_, _, rfl, rfl, h⟩
  · exact ⟨_, _, rfl, rfl, h⟩
  · exact ⟨_, _, rfl, rfl, h⟩
  · exact h.elim
abbrev XT : Type := Nat → Nat → List Value → AH → Nat → Nat → Prop
/-- what is asked behind a call, of its outcome -/
def ix_back (N : KT) (X : XT) (lo rest : List Value) (c z : Nat) : OO → AH → Prop := fun o h => match o with
  | .inl none => N lo rest h c z
  | .inl (some v) => N lo (v :: rest) h c z
  | .inr e => X e.1 e.2 lo h c z
/-- a static call: the method, its depth, cells, slots, number of args -/
def ix_callS (Yc : YY) (g mc ms n : Nat) (N : KT) (X : XT) (lo st : List Value) (h : AH) (c z : Nat) : Prop :=
  ix_take n st fun as rest => Nat.ble (ah_sum rest) 8 = true ∧ mc ≤ c ∧ ms ≤ z ∧ zz_Sp Yc g mc ms as h (ix_back N X lo rest (c - mc) (z - ms))
/-- a call on an object of the tag t -/
def ix_callV (t : Nat) (Yc : YY) (g mc ms n : Nat) (N : KT) (X : XT) (lo st : List Value) (h : AH) (c z : Nat) : Prop :=
  ix_take n st fun as rest => match as with
    | .ref r :: _ => ah_T h r = t ∧ Nat.ble (ah_sum rest) 8 = true ∧ mc ≤ c ∧ ms ≤ z ∧ zz_Sp Yc g mc ms as h (ix_back N X lo rest (c - mc) (z - ms))
    | _ => False
section CALLS
variable {p : Program} {l : Launch} {e : Env} {R : Room} {s : State} {m : MethodId} {args : Array Value} {below : List Frame} {meth : Method} {cd : Code} {H : Heap} {locs : List Loc} {cells slots : Nat} {QQ : State → Prop} {D : va_G} {sa : Nat → Nat} {base : Nat}
theorem zz_callW {pc mc ms : Nat} {ls : Array Slot} {st0 rest : List Value} {Q2 : OO → AH → Prop} {aa : Array Value}
    (hr : vx_Run p l e R s m args below meth cd H locs cells slots mc ms (F0 m pc ls st0) rest (zz_Qc D sa base Q2 aa) (zz_XC D base Q2) (zz_A base)) (hS : va_S (zz_A base) s.heap H locs)
    (kk : ∀ (v : Option Value) (h' : AH) (H1 : Heap) (locs1 : List Loc), Q2 (.inl v) h' → zz_Rep D base h' H1 → va_S (zz_A base) s.heap H1 locs1 → W p l e R s m args below meth cd H1 locs1 (cells + mc) (slots + ms) QQ (F0 m (pc + 3) ls ((v.map (ah_v sa)).toList ++ rest)))
    (kx : ∀ (ek : Nat) (q : Addr) (h' : AH) (H1 : Heap) (locs1 : List Loc) (ce : Cell), Q2 (.inr (ek, q + 1)) h' → zz_Rep D base h' H1 → va_S (zz_A base) s.heap H1 locs1 → H1[q]? = some ce → ce.vm = .none → s.vm.findClass (zz_exn ek) = some ce.cls → vx_W p l e R s m args below meth cd H1 locs1 (cells + mc) (slots + ms) QQ (F0 m pc ls rest) q) :
    W p l e R s m args below meth cd H locs cells slots QQ (F0 m pc ls st0) := by
  intro T hT X
  rcases hr T hT X with ⟨v, st₀, t, T', L, h0, X', hL, e1, e2, ⟨v', h', hv, hq, hrep, hF⟩, st⟩ | ⟨q, st₀, t, T', L, E, ce, h0, X', hL, e1, e2, ⟨ek, h', rfl, hq, hrep, hF⟩, hce, hcv, hcl, st⟩
  · cases hv
    obtain ⟨k1, k2, k3⟩ := vx_keep h0 e1 hS (fun _ _ h => h) (fun _ h => h) hL hF
    obtain ⟨t2, a1, b1⟩ := kk v' h' T'.heap (locs ++ L) hq (by rw [e1]; exact hrep) k3 T' rfl X'
    exact ⟨t2, st t2 a1, b1⟩
  · obtain ⟨k1, k2, k3⟩ := vx_keep h0 e1 hS (fun _ _ h => h) (fun _ h => h) hL hF
    obtain ⟨t2, a1, b1⟩ := kx ek q h' T'.heap (locs ++ L) ce hq (by rw [e1]; exact hrep) k3 (by rw [e1]; exact hce) hcv hcl T' rfl X'
    exact ⟨t2, st.trans a1, b1⟩
theorem zz_blind {as : List Value} {h : AH} : FrameBlind (zz_Pc D sa base as h) := fun _ _ _ _ q => by
  obtain ⟨q1, q2, q3, q4⟩ := q
  exact ⟨q1, q2, q3.same rfl, q4⟩
theorem zz_pre {as : List Value} {h : AH} (K : zz_KB D sa base s s.heap) (hb : base ≤ s.heap.size) (Z : zz_Rep D base h H) (S : va_S (zz_A base) s.heap H locs) {U : State} (hU : U.heap = H) (hW : s.WarmedH U.vm) : zz_Pc D sa base as h (as.map (ah_v sa)).toArray U :=
  ⟨rfl, by rw [hU]; exact Z, by rw [hU]; exact K.warm hW S.2.1, by rw [hU]; exact Nat.le_trans hb S.1⟩
/-- what goes on behind a call -/
theorem zz_goes {Y : YY} {f : Nat} {Q : OO → AH → Prop} {pc mc ms c z : Nat} {ls : Array Slot} {lo rest st0 : List Value} {N : KT} {X : XT} {aa : Array Value} {h : AH}
    (hr : vx_Run p l e R s m args below meth cd H locs cells slots mc ms (F0 m pc ls st0) (rest.map (ah_v sa)) (zz_Qc D sa base (ix_back N X lo rest (c - mc) (z - ms)) aa) (zz_XC D base (ix_back N X lo rest (c - mc) (z - ms))) (zz_A base))
    (A : zz_At Y f D sa base p l R s m args meth cd H locs cells slots ls lo h c z) (hc : mc ≤ c) (hz : ms ≤ z) (nn : zz_L Y f Q (pc + 3) N) (xx : zz_LX Y f Q pc X) :
    zz_W D sa base Q p l e R s m args below meth cd H locs cells slots (F0 m pc ls st0) := by
  obtain ⟨F, R0, K, hb, Z, S, L, h1, h2⟩ := A
  refine zz_callW hr S (fun v h' H1 locs1 hq hrep S1 => ?_) (fun ek q h' H1 locs1 ce hq hrep S1 hce hcv hcl => ?_)
  · cases v with
    | none => exact nn _ _ _ _ _ hq D sa base p l e R s m args below meth cd H1 locs1 (cells + mc) (slots + ms) ls ⟨F, R0, K, hb, hrep, S1, L, by omega, by omega⟩
    | some v => exact nn _ _ _ _ _ hq D sa base p l e R s m args below meth cd H1 locs1 (cells + mc) (slots + ms) ls ⟨F, R0, K, hb, hrep, S1, L, by omega, by omega⟩
  · exact xx _ _ _ _ _ _ hq D sa base p l e R s m args below meth cd H1 locs1 (cells + mc) (slots + ms) ls (rest.map (ah_v sa)) ce q ⟨F, R0, K, hb, hrep, S1, L, by omega, by omega⟩ rfl hce hcv hcl
end CALLS
/-- a method's plain word -/
def zz_code (Y : YY) : Cond := .code Y.1 Y.2.1 Y.2.2.1 Y.2.2.2.1
def zz_np (Y : YY) (n : Nat) : Prop := Y.1.cls ≠ "java/lang/invoke/MethodHandle" ∧ Y.1.cls ≠ "java/lang/invoke/VarHandle" ∧ (parseMethodDescriptor Y.1.desc).map (fun d => d.parameters.length) = some n
theorem zz_mapE {sa : Nat → Nat} {as : List Value} {r : Nat} (hr : r ≠ 0) : ((Value.ref r :: as).map (ah_v sa)).toArray = (Value.ref (r - 1) :: as.map (ah_v sa)).toArray := by
  show (ah_rr r :: _).toArray = _
  rw [ah_rr_pos hr]
theorem zz_stE {sa : Nat → Nat} {as rest : List Value} {r : Nat} (hr : r ≠ 0) : ((Value.ref r :: as).reverse ++ rest).map (ah_v sa) = (as.map (ah_v sa)).reverse ++ .ref (r - 1) :: rest.map (ah_v sa) := by
  rw [List.map_append, List.map_reverse]
  show (ah_rr r :: as.map (ah_v sa)).reverse ++ _ = _
  rw [ah_rr_pos hr]
  simp
theorem sx_callS {Y : YY} {f : Nat} {Q : OO → AH → Prop} {pc : Nat} {N : KT} {X : XT} {Yc : YY} {g mc ms n idx : Nat} (hl : GoodIn lw_all (va_wsS Y.1.cls idx Yc.1 (zz_code Yc :: lw_all))) (hw : Yc.2.2.2.2 = []) (hd : zz_np Yc n) (hg : g + 1 ≤ f) (hm : Yc.2.2.1 ≤ 29) (d : decode Y.2.1 pc = .ok (.invokestatic idx, 3)) (nn : zz_L Y f Q (pc + 3) N) (xx : zz_LX Y f Q pc X) : zz_L Y f Q pc (ix_callS Yc g mc ms n N X) := by
  obtain ⟨y, cc, maxL, ret, hh⟩ := Yc
  cases hw
  intro lo st h c z hi D sa base p l e R s m args below meth cd H locs cells slots ls A
  obtain ⟨as, rest, hlen, rfl, g1, g2, g3, hsp⟩ := ix_take_ok hi
  have A' := A
  obtain ⟨F, R0, K, hb, Z, S, L, h1, h2⟩ := A
  obtain ⟨fx, fb, fm, fo, fw, fr, fl, fn, ft, fe⟩ := F
  have hM := hsp l D sa base ft
  have g1' : ah_sum rest ≤ 8 := Nat.le_of_ble_eq_true g1
  refine zz_goes (rest := rest) (aa := (as.map (ah_v sa)).toArray) ?_ A' g2 g3 nn xx
  dsimp only at hm
  exact vx_runS (As := as.map (ah_v sa)) (rest := rest.map (ah_v sa)) ⟨fx, fb, fm, fo, fw⟩ hM (va_cwS n fw hl rfl rfl rfl hd ⟨by show g + 1 ≤ R.frames; rw [R0.1]; exact hg, by show 8 + (maxL + 11) + 48 * g ≤ R.locals; rw [R0.2]; omega⟩) ⟨zz_blind, fun U hU hW => zz_pre K hb Z S hU hW⟩ rfl (by rw [List.length_map]; exact hlen) L.1 (by rw [List.map_append, List.map_reverse]) (lv_room (by rw [ah_sum_eq]; exact g1')) d ⟨by omega, by omega⟩
theorem zz_runV0 {Y : YY} {f : Nat} {Q : OO → AH → Prop} {pc : Nat} {N : KT} {X : XT} {Yc : YY} {g mc ms n t ci : Nat} {C : String} {T : u_T} {nn0 : Nat} (hC : zz_CL ci C T nn0) (ht : ci + 1 = t)
    (row : ∀ {p : Program} {l : Launch} {e : Env} {R : Room} {s : State} {m : MethodId} {args : Array Value} {below : List Frame} {meth : Method} {cd : Code} {H : Heap} {locs : List Loc} {cells slots : Nat} {D : va_G} {sa : Nat → Nat} {base : Nat} {ls : Array Slot} {as rest : List Value} {h : AH} {r : Nat} {Q2 : OO → AH → Prop} {lo : List Value} {c z : Nat}, zz_At Y f D sa base p l R s m args meth cd H locs cells slots ls lo h c z → mc ≤ c → ms ≤ z → as.length + 1 = n → r ≠ 0 → ah_sum rest ≤ 8 →
      (∃ cellB : Cell, H[r - 1]? = some cellB ∧ cellB.vm.isStatics = false ∧ s.vm.findClass C = some cellB.cls) →
      vx_Met l Yc.1 (zz_ws Yc) (zz_rm g mc ms) (zz_Pc D sa base (.ref r :: as) h) (zz_Qc D sa base Q2) (zz_XC D base Q2) mc ms (zz_A base) →
      vx_Run p l e R s m args below meth cd H locs cells slots mc ms (F0 m pc ls ((as.map (ah_v sa)).reverse ++ .ref (r - 1) :: rest.map (ah_v sa))) (rest.map (ah_v sa)) (zz_Qc D sa base Q2 ((Value.ref (r - 1) :: as.map (ah_v sa)).toArray)) (zz_XC D base Q2) (zz_A base))
    (nn : zz_L Y f Q (pc + 3) N) (xx : zz_LX Y f Q pc X) : zz_L Y f Q pc (ix_callV t Yc g mc ms n N X) := by
  intro lo st h c z hi0 D sa base p l e R s m args below meth cd H locs cells slots ls A
  obtain ⟨as, rest, hlen, rfl, hi⟩ := ix_take_ok hi0
  split at hi
  · next r as =>
    obtain ⟨g0, g1, g2, g3, hsp⟩ := hi
    have A' := A
    obtain ⟨F, R0, K, hb, Z, S, L, h1, h2⟩ := A
    have h0 : ah_T h r ≠ 0 := by rw [g0]; omega
    have hne := Z.ne h0
    obtain ⟨q, hq, hw⟩ := Z.at h0
    rw [ah_cell_o (ci := ci) (g0.trans ht.symm) hC.2.2.2.1] at hw
    have hM := hsp l D sa base F.2.2.2.2.2.2.2.2.1
    refine zz_goes (rest := rest) (aa := (Value.ref (r - 1) :: as.map (ah_v sa)).toArray) ?_ A' g2 g3 nn xx
    rw [zz_stE hne]
    exact row A' g2 g3 (by simpa using hlen) hne (Nat.le_of_ble_eq_true g1) (va_recv K.1 Z.1 hC.1 hw) hM
  · exact hi.elim
theorem sx_callV {Y : YY} {f : Nat} {Q : OO → AH → Prop} {pc : Nat} {N : KT} {X : XT} {Yc : YY} {g mc ms n t ci idx : Nat} {C : String} {T : u_T} {nn0 : Nat} (hC : zz_CL ci C T nn0) (ht : ci + 1 = t) (hl : GoodIn lw_all (wsV Y.1.cls idx C Yc.1 (zz_code Yc :: lw_all))) (hw : Yc.2.2.2.2 = []) (hd : Yc.1.cls = C ∧ zz_np Yc n) (hg : g + 1 ≤ f) (hm : Yc.2.2.1 ≤ 29) (d : decode Y.2.1 pc = .ok (.invokevirtual idx, 3)) (nn : zz_L Y f Q (pc + 3) N) (xx : zz_LX Y f Q pc X) : zz_L Y f Q pc (ix_callV t Yc g mc ms (n + 1) N X) := by
  obtain ⟨y, cc, maxL, ret, hh⟩ := Yc
  cases hw
  dsimp only at hm
  refine zz_runV0 hC ht (fun A g2 g3 hlen hne g1 hrec hM => ?_) nn xx
  obtain ⟨F, R0, K, hb, Z, S, L, h1, h2⟩ := A
  obtain ⟨fx, fb, fm, fo, fw, fr, fl, fn, ft, fe⟩ := F
  exact vx_runV ⟨fx, fb, fm, fo, fw⟩ hM (cwV n fw hl rfl rfl rfl hd ⟨by rw [R0.1]; exact hg, by rw [R0.2]; show 8 + (maxL + 11) + 48 * g ≤ 48 * f; omega⟩) ⟨zz_blind, hrec, fun U hU hW => by rw [← zz_mapE hne]; exact zz_pre K hb Z S hU hW⟩ rfl (by rw [List.length_map]; omega) L.1 rfl (lv_room (by rw [ah_sum_eq]; exact g1)) d ⟨by omega, by omega⟩
/-- the same, of a method with handlers -/
theorem sx_callVX {Y : YY} {f : Nat} {Q : OO → AH → Prop} {pc : Nat} {N : KT} {X : XT} {Yc : YY} {g mc ms n t ci idx : Nat} {C : String} {T : u_T} {nn0 : Nat} (hC : zz_CL ci C T nn0) (ht : ci + 1 = t) (hl : GoodIn lw_all (wsV Y.1.cls idx C Yc.1 (zz_ws Yc))) (hw : zz_ws Yc = Cond.codeWith Yc.1 Yc.2.1 Yc.2.2.1 Yc.2.2.2.1 Yc.2.2.2.2 :: lw_all) (hd : Yc.1.cls = C ∧ zz_np Yc n) (hg : g + 1 ≤ f) (hm : Yc.2.2.1 ≤ 29) (d : decode Y.2.1 pc = .ok (.invokevirtual idx, 3)) (nn : zz_L Y f Q (pc + 3) N) (xx : zz_LX Y f Q pc X) : zz_L Y f Q pc (ix_callV t Yc g mc ms (n + 1) N X) := by
  refine zz_runV0 hC ht (fun A g2 g3 hlen hne g1 hrec hM => ?_) nn xx
  obtain ⟨F, R0, K, hb, Z, S, L, h1, h2⟩ := A
  obtain ⟨fx, fb, fm, fo, fw, fr, fl, fn, ft, fe⟩ := F
  exact vx_runVX ⟨fx, fb, fm, fo, fw⟩ hM (vx_cwVW n fw hl hw rfl rfl hd ⟨by rw [R0.1]; exact hg, by rw [R0.2]; show 8 + (Yc.2.2.1 + 11) + 48 * g ≤ 48 * f; omega⟩) ⟨zz_blind, hrec, fun U hU hW => by rw [← zz_mapE hne]; exact zz_pre K hb Z S hU hW⟩ rfl (by rw [List.length_map]; omega) L.1 rfl (lv_room (by rw [ah_sum_eq]; exact g1)) d ⟨by omega, by omega⟩
/-- a mate's method -/
theorem sx_callVN {Y : YY} {f : Nat} {Q : OO → AH → Prop} {pc : Nat} {N : KT} {X : XT} {Yc : YY} {g mc ms n t ci idx : Nat} {C ho : String} {T : u_T} {nn0 : Nat} (hC : zz_CL ci C T nn0) (ht : ci + 1 = t) (hl : Cond.methodLinkNest Y.1.cls idx Yc.1 ho ∈ lw_tbl) (hcode : zz_code Yc ∈ lw_all) (hini : Cond.initialized Yc.1.cls ∈ lw_all) (hin : Cond.instanceMethod Yc.1 ∈ lw_all) (hsel : Cond.selects C Yc.1 Yc.1 ∈ lw_all) (hw : Yc.2.2.2.2 = []) (hd : zz_np Yc n) (hg : g + 1 ≤ f) (hm : Yc.2.2.1 ≤ 29) (d : decode Y.2.1 pc = .ok (.invokevirtual idx, 3)) (nn : zz_L Y f Q (pc + 3) N) (xx : zz_LX Y f Q pc X) : zz_L Y f Q pc (ix_callV t Yc g mc ms (n + 1) N X) := by
  obtain ⟨y, cc, maxL, ret, hh⟩ := Yc
  cases hw
  dsimp only at hm
  refine zz_runV0 hC ht (fun A g2 g3 hlen hne g1 hrec hM => ?_) nn xx
  obtain ⟨F, R0, K, hb, Z, S, L, h1, h2⟩ := A
  obtain ⟨fx, fb, fm, fo, fw, fr, fl, fn, ft, fe⟩ := F
  exact vx_runVN ⟨fx, fb, fm, fo, fw⟩ hM ⟨va_cnB n fw (lw_meth hcode) rfl rfl rfl (K.2.2.1 _ _ _ _ hl) (fw _ hini) hd ⟨by rw [R0.1]; exact hg, by rw [R0.2]; show 8 + (maxL + 11) + 48 * g ≤ 48 * f; omega⟩, fw _ hin, fw _ hsel⟩ ⟨zz_blind, hrec, fun U hU hW => by rw [← zz_mapE hne]; exact zz_pre K hb Z S hU hW⟩ rfl (by rw [List.length_map]; omega) L.1 rfl (lv_room (by rw [ah_sum_eq]; exact g1)) d ⟨by omega, by omega⟩
/-- a method found in a kind above -/
theorem sx_callU {Y : YY} {f : Nat} {Q : OO → AH → Prop} {pc : Nat} {N : KT} {X : XT} {Yc : YY} {x : MethodName} {ow : String} {g mc ms n t ci idx : Nat} {C : String} {T : u_T} {nn0 : Nat} (hC : zz_CL ci C T nn0) (ht : ci + 1 = t) (hl : GoodIn lw_all (va_wsU Y.1.cls idx C ow x Yc.1 (zz_code Yc :: lw_all))) (hw : Yc.2.2.2.2 = []) (hyx : Yc.1 = ⟨ow, x.name, x.desc⟩) (hd : ow ≠ "java/lang/invoke/MethodHandle" ∧ ow ≠ "java/lang/invoke/VarHandle" ∧ (parseMethodDescriptor x.desc).map (fun d => d.parameters.length) = some n) (hg : g + 1 ≤ f) (hm : Yc.2.2.1 ≤ 29) (d : decode Y.2.1 pc = .ok (.invokevirtual idx, 3)) (nn : zz_L Y f Q (pc + 3) N) (xx : zz_LX Y f Q pc X) : zz_L Y f Q pc (ix_callV t Yc g mc ms (n + 1) N X) := by
  obtain ⟨y, cc, maxL, ret, hh⟩ := Yc
  cases hw
  dsimp only at hm
  refine zz_runV0 hC ht (fun A g2 g3 hlen hne g1 hrec hM => ?_) nn xx
  obtain ⟨F, R0, K, hb, Z, S, L, h1, h2⟩ := A
  obtain ⟨fx, fb, fm, fo, fw, fr, fl, fn, ft, fe⟩ := F
  exact vx_runU ⟨fx, fb, fm, fo, fw⟩ hM (va_cwU n fw hl rfl rfl rfl hyx hd ⟨by rw [R0.1]; exact hg, by rw [R0.2]; show 8 + (maxL + 11) + 48 * g ≤ 48 * f; omega⟩) ⟨zz_blind, hrec, fun U hU hW => by rw [← zz_mapE hne]; exact zz_pre K hb Z S hU hW⟩ rfl (by rw [List.length_map]; omega) L.1 rfl (lv_room (by rw [ah_sum_eq]; exact g1)) d ⟨by omega, by omega⟩
/-- an abstract method, by the receiver's own -/
theorem sx_callA {Y : YY} {f : Nat} {Q : OO → AH → Prop} {pc : Nat} {N : KT} {X : XT} {Yc : YY} {x : MethodName} {ow : String} {g mc ms n t ci idx : Nat} {C : String} {T : u_T} {nn0 : Nat} (hC : zz_CL ci C T nn0) (ht : ci + 1 = t) (hl : GoodIn lw_all (va_wsU Y.1.cls idx C ow x Yc.1 (zz_code Yc :: lw_all))) (hw : Yc.2.2.2.2 = []) (hz : Cond.declares ⟨ow, x.name, x.desc⟩ ∈ lw_tbl) (hd : ow ≠ "java/lang/invoke/MethodHandle" ∧ ow ≠ "java/lang/invoke/VarHandle" ∧ (parseMethodDescriptor x.desc).map (fun d => d.parameters.length) = some n) (hg : g + 1 ≤ f) (hm : Yc.2.2.1 ≤ 29) (d : decode Y.2.1 pc = .ok (.invokevirtual idx, 3)) (nn : zz_L Y f Q (pc + 3) N) (xx : zz_LX Y f Q pc X) : zz_L Y f Q pc (ix_callV t Yc g mc ms (n + 1) N X) := by
  obtain ⟨y, cc, maxL, ret, hh⟩ := Yc
  cases hw
  dsimp only at hm
  refine zz_runV0 hC ht (fun A g2 g3 hlen hne g1 hrec hM => ?_) nn xx
  obtain ⟨F, R0, K, hb, Z, S, L, h1, h2⟩ := A
  obtain ⟨fx, fb, fm, fo, fw, fr, fl, fn, ft, fe⟩ := F
  exact vx_runU ⟨fx, fb, fm, fo, fw⟩ hM (va_cwA n fw hl rfl rfl rfl (K.2.2.2.2.1 _ hz) hd ⟨by rw [R0.1]; exact hg, by rw [R0.2]; show 8 + (maxL + 11) + 48 * g ≤ 48 * f; omega⟩) ⟨zz_blind, hrec, fun U hU hW => by rw [← zz_mapE hne]; exact zz_pre K hb Z S hU hW⟩ rfl (by rw [List.length_map]; omega) L.1 rfl (lv_room (by rw [ah_sum_eq]; exact g1)) d ⟨by omega, by omega⟩
/-- a maker -/
theorem sx_callI {Y : YY} {f : Nat} {Q : OO → AH → Prop} {pc : Nat} {N : KT} {X : XT} {Yc : YY} {g mc ms n t ci idx : Nat} {C : String} {T : u_T} {nn0 : Nat} (hC : zz_CL ci C T nn0) (ht : ci + 1 = t) (hl : Cond.methodLink Y.1.cls idx Yc.1 ∈ lw_all ∨ ∃ ho, Cond.methodLinkNest Y.1.cls idx Yc.1 ho ∈ lw_tbl) (hcode : zz_code Yc ∈ lw_all) (hini : Cond.initialized Yc.1.cls ∈ lw_all) (hin : Cond.instanceMethod Yc.1 ∈ lw_all) (hw : Yc.2.2.2 = (none, [])) (hy1 : Yc.1.name = "<init>") (hd : zz_np Yc n) (hg : g + 1 ≤ f) (hm : Yc.2.2.1 ≤ 29) (d : decode Y.2.1 pc = .ok (.invokespecial idx, 3)) (nn : zz_L Y f Q (pc + 3) N) (xx : zz_LX Y f Q pc X) : zz_L Y f Q pc (ix_callV t Yc g mc ms (n + 1) N X) := by
  obtain ⟨y, cc, maxL, ret, hh⟩ := Yc
  cases hw
  dsimp only at hm hy1
  refine zz_runV0 hC ht (fun A g2 g3 hlen hne g1 hrec hM => ?_) nn xx
  obtain ⟨F, R0, K, hb, Z, S, L, h1, h2⟩ := A
  obtain ⟨fx, fb, fm, fo, fw, fr, fl, fn, ft, fe⟩ := F
  rcases hl with hl | ⟨ho, hl⟩
  · exact vx_runI ⟨fx, fb, fm, fo, fw⟩ hM (cwI n fw (lw_meth hcode) rfl rfl rfl (fw _ hini) (fw _ hl) (fw _ hin) hy1 hd ⟨by rw [R0.1]; exact hg, by rw [R0.2]; show 8 + (maxL + 11) + 48 * g ≤ 48 * f; omega⟩) ⟨zz_blind, fun U hU hW => by rw [← zz_mapE hne]; exact zz_pre K hb Z S hU hW⟩ rfl (by rw [List.length_map]; omega) L.1 rfl (lv_room (by rw [ah_sum_eq]; exact g1)) d ⟨by omega, by omega⟩
  · exact vx_runIN ⟨fx, fb, fm, fo, fw⟩ hM ⟨va_cnB n fw (lw_meth hcode) rfl rfl rfl (K.2.2.1 _ _ _ _ hl) (fw _ hini) hd ⟨by rw [R0.1]; exact hg, by rw [R0.2]; show 8 + (maxL + 11) + 48 * g ≤ 48 * f; omega⟩, hy1, fw _ hin⟩ ⟨zz_blind, fun U hU hW => by rw [← zz_mapE hne]; exact zz_pre K hb Z S hU hW⟩ rfl (by rw [List.length_map]; omega) L.1 rfl (lv_room (by rw [ah_sum_eq]; exact g1)) d ⟨by omega, by omega⟩
/-- a static method of a mate -/
theorem sx_callSN {Y : YY} {f : Nat} {Q : OO → AH → Prop} {pc : Nat} {N : KT} {X : XT} {Yc : YY} {g mc ms n idx : Nat} {ho : String} (hl : Cond.methodLinkNest Y.1.cls idx Yc.1 ho ∈ lw_tbl) (hcode : zz_code Yc ∈ lw_all) (hini : Cond.initialized Yc.1.cls ∈ lw_all) (hst : Cond.static Yc.1 ∈ lw_all) (hw : Yc.2.2.2.2 = []) (hd : zz_np Yc n) (hg : g + 1 ≤ f) (hm : Yc.2.2.1 ≤ 29) (d : decode Y.2.1 pc = .ok (.invokestatic idx, 3)) (nn : zz_L Y f Q (pc + 3) N) (xx : zz_LX Y f Q pc X) : zz_L Y f Q pc (ix_callS Yc g mc ms n N X) := by
  obtain ⟨y, cc, maxL, ret, hh⟩ := Yc
  cases hw
  intro lo st h c z hi D sa base p l e R s m args below meth cd H locs cells slots ls A
  obtain ⟨as, rest, hlen, rfl, g1, g2, g3, hsp⟩ := ix_take_ok hi
  have A' := A
  obtain ⟨F, R0, K, hb, Z, S, L, h1, h2⟩ := A
  obtain ⟨fx, fb, fm, fo, fw, fr, fl, fn, ft, fe⟩ := F
  have hM := hsp l D sa base ft
  have g1' : ah_sum rest ≤ 8 := Nat.le_of_ble_eq_true g1
  refine zz_goes (rest := rest) (aa := (as.map (ah_v sa)).toArray) ?_ A' g2 g3 nn xx
  dsimp only at hm
  exact vx_runSN (As := as.map (ah_v sa)) (rest := rest.map (ah_v sa)) ⟨fx, fb, fm, fo, fw⟩ hM ⟨va_cnB n fw (lw_meth hcode) rfl rfl rfl (K.2.2.1 _ _ _ _ hl) (fw _ hini) hd ⟨by rw [R0.1]; exact hg, by rw [R0.2]; show 8 + (maxL + 11) + 48 * g ≤ 48 * f; omega⟩, fw _ hst, trivial⟩ ⟨zz_blind, fun U hU hW => zz_pre K hb Z S hU hW⟩ rfl (by rw [List.length_map]; exact hlen) L.1 (by rw [List.map_append, List.map_reverse]) (lv_room (by rw [ah_sum_eq]; exact g1')) d ⟨by omega, by omega⟩
/-- Object's own maker does nothing -/
def ix_objInit (N : KT) (lo st : List Value) (h : AH) (c z : Nat) : Prop := match st with
  | .ref r :: st => ah_T h r ≠ 0 ∧ Nat.ble (ah_sum st) 8 = true ∧ N lo st h c z
  | _ => False
theorem sx_objInit {Y : YY} {f : Nat} {Q : OO → AH → Prop} {pc : Nat} {N : KT} {idx : Nat} (hl : Cond.methodLink Y.1.cls idx Lib.objectInit ∈ lw_all) (hin : Cond.instanceMethod Lib.objectInit ∈ lw_all) (hcode : Cond.code Lib.objectInit ⟨#[0xb1]⟩ 1 none ∈ lw_all) (hf : 1 ≤ f) (d : decode Y.2.1 pc = .ok (.invokespecial idx, 3)) (n : zz_L Y f Q (pc + 3) N) : zz_L Y f Q pc (ix_objInit N) := by
  intro lo st h c z hi
  unfold ix_objInit at hi
  split at hi
  · next r st =>
    intro D sa base p l e R s m args below meth cd H locs cells slots ls A
    have kk := n _ _ _ _ _ hi.2.2 D sa base p l e R s m args below meth cd H locs cells slots ls A
    obtain ⟨F, R0, K, hb, Z, S, L, h1, h2⟩ := A
    obtain ⟨fx, fb, fm, fo, fw, fr, fl, fn, ft, fe⟩ := F
    have hne := Z.ne hi.1
    have g1' : ah_sum st ≤ 8 := Nat.le_of_ble_eq_true hi.2.1
    show W p l e R s m args below meth cd H locs cells slots _ (F0 m pc ls (ah_rr r :: st.map (ah_v sa)))
    rw [ah_rr_pos hne]
    refine W.objInit fx fb fo (fw _ hl) (fw _ hin) (fw _ hcode) rfl (by rw [fm]; exact L.1) rfl d (by rw [R0.1]; exact hf) (by rw [R0.2, ah_sum_eq]; show 2 * 0 + _ + 12 ≤ _; omega) kk
  · exact hi.elim
/-! THROWING -/
def ix_athrow (t ek : Nat) (X : XT) (lo st : List Value) (h : AH) (c z : Nat) : Prop := match st with
  | .ref r :: _ => ah_T h r = t ∧ X ek r lo h c z
  | _ => False
theorem sx_athrow {Y : YY} {f : Nat} {Q : OO → AH → Prop} {pc : Nat} {X : XT} {ci t ek : Nat} {C : String} {T : u_T} {nn0 : Nat} (hC : zz_CL ci C T nn0) (ht : ci + 1 = t) (he : zz_exn ek = C) (d : decode Y.2.1 pc = .ok (.athrow, 1)) (xx : zz_LX Y f Q pc X) : zz_L Y f Q pc (ix_athrow t ek X) := by
  intro lo st h c z hi
  unfold ix_athrow at hi
  split at hi
  · next r st =>
    intro D sa base p l e R s m args below meth cd H locs cells slots ls A
    have A' := A
    obtain ⟨F, R0, K, hb, Z, S, L, h1, h2⟩ := A
    have h0 : ah_T h r ≠ 0 := by rw [hi.1]; omega
    have hne := Z.ne h0
    obtain ⟨q, hq, hw⟩ := Z.at h0
    rw [ah_cell_o (ci := ci) (hi.1.trans ht.symm) hC.2.2.2.1] at hw
    obtain ⟨q', e1, cell, e2, e3, e4, -⟩ := Z.1 _ _ hw
    cases Option.some.inj (e1.symm.trans hC.1)
    have hcl : s.vm.findClass (zz_exn ek) = some cell.cls := by
      rw [he, e3]
      exact (K.1.1 ci _ hC.1).2.1
    show W p l e R s m args below meth cd H locs cells slots _ (F0 m pc ls (ah_rr r :: st.map (ah_v sa)))
    rw [ah_rr_pos hne]
    exact vx_athrow F.1 F.2.1 d (xx _ _ _ _ _ _ hi.2 D sa base p l e R s m args below meth cd H locs cells slots ls _ cell (r - 1) A' (by omega) e2 e4 hcl)
  · exact hi.elim
/-! A METHOD FROM ITS ENTRY -/
/-- the slots with which a method begins -/
def ah_args : List Value → List Value
  | [] => []
  | .long x :: t => .long x :: .null :: ah_args t
  | v :: t => v :: ah_args t
def ah_ent (n : Nat) (as : List Value) : List Value := ah_args as ++ List.replicate (n - ah_sum as) .null
theorem ah_args_lo (sa : Nat → Nat) : ∀ (as : List Value) (i : Nat), (∀ v ∈ as, ah_ok v = true) → ∀ tl, (∀ q ∈ ah_lo sa (i + ah_sum as) tl, False) → ∀ q ∈ ah_lo sa i (ah_args as ++ tl), q ∈ lv_args i (as.map (ah_v sa)) := by
  intro as
  induction as with
  | nil =>
    intro i _ tl h q hq
    exact (h q (by simpa [ah_sum, ah_args] using hq)).elim
  | cons v t ih =>
    intro i hok tl h q hq
    have hv := hok v List.mem_cons_self
    have ht := fun u hu => hok u (List.mem_cons_of_mem _ hu)
    by_cases hl : ∃ x, v = .long x
    · obtain ⟨x, rfl⟩ := hl
      have e1 : ah_lo sa i (ah_args (.long x :: t) ++ tl) = (i, .long x) :: ah_lo sa (i + 1 + 1) (ah_args t ++ tl) := rfl
      rw [e1] at hq
      have e2 : lv_args i ((Value.long x :: t).map (ah_v sa)) = (i, .long x) :: lv_args (i + 2) (t.map (ah_v sa)) := rfl
      rw [e2]
      rcases List.mem_cons.mp hq with rfl | hq
      · exact List.mem_cons_self
      · exact List.mem_cons_of_mem _ (ih (i + 2) ht tl (by
          have e3 : i + 2 + ah_sum t = i + ah_sum (.long x :: t) := by simp [ah_sum, ah_cat]; omega
          rw [e3]; exact h) q hq)
    · have e0 : ah_cat v = 1 := by
        cases v with
        | long x => exact absurd ⟨x, rfl⟩ hl
        | _ => rfl
      have e1 : ah_args (v :: t) = v :: ah_args t := by
        cases v with
        | long x => exact absurd ⟨x, rfl⟩ hl
        | _ => rfl
      rw [e1, List.cons_append] at hq
      have e4 : ah_lo sa i (v :: (ah_args t ++ tl)) = (i, ah_v sa v) :: ah_lo sa (i + 1) (ah_args t ++ tl) := by simp [ah_lo, hv]
      rw [e4] at hq
      have e2 : lv_args i ((v :: t).map (ah_v sa)) = (i, ah_v sa v) :: lv_args (i + 1) (t.map (ah_v sa)) := by
        show (i, ah_v sa v) :: lv_args (if (ah_v sa v).category = 2 then i + 2 else i + 1) _ = _
        rw [ah_v_cat, e0, if_neg (by decide)]
      rw [e2]
      rcases List.mem_cons.mp hq with rfl | hq
      · exact List.mem_cons_self
      · exact List.mem_cons_of_mem _ (ih (i + 1) ht tl (by
          have e3 : i + 1 + ah_sum t = i + ah_sum (v :: t) := by simp [ah_sum, e0]; omega
          rw [e3]; exact h) q hq)
theorem ah_lo_null (sa : Nat → Nat) : ∀ (n i : Nat), ∀ q ∈ ah_lo sa i (List.replicate n .null), False := by
  intro n
  induction n with
  | zero => intro i q hq; cases hq
  | succ n ih =>
    intro i q hq
    exact ih (i + 1) q hq
theorem lg_sl_len (sa : Nat → Nat) (as : List Value) : (lg_sl (as.map (ah_v sa))).length = ah_sum as := by
  induction as with
  | nil => rfl
  | cons v t ih =>
    have e1 : lg_sl ((v :: t).map (ah_v sa)) = lg_sl [ah_v sa v] ++ lg_sl (t.map (ah_v sa)) := by simp [lg_sl]
    rw [e1, List.length_append, ih]
    have e2 : (lg_sl [ah_v sa v]).length = ah_cat v := by
      cases v with
      | ref r => cases r <;> rfl
      | _ => rfl
    rw [e2]
    rfl
theorem zz_Sp_of {Y : YY} {f c z : Nat} {as : List Value} {h : AH} {Q : OO → AH → Prop} (hp : plainName Y.1.cls = true) (hn : Nat.ble (ah_sum as) Y.2.2.1 = true) (hok : as.all ah_ok = true) (k : zz_G Y f Q 0 (ah_ent Y.2.2.1 as) [] h c z) : zz_Sp Y f c z as h Q := by
  intro l D sa base hl
  have hn' : (lg_sl (as.map (ah_v sa))).length ≤ Y.2.2.1 := by rw [lg_sl_len]; exact Nat.le_of_ble_eq_true hn
  have hent : ∀ {ls : Array Slot}, lv_has ls Y.2.2.1 (lv_args 0 (as.map (ah_v sa))) → lv_has ls Y.2.2.1 (ah_lo sa 0 (ah_ent Y.2.2.1 as)) := fun h => lv_mono h (ah_args_lo sa as 0 (List.all_eq_true.mp hok) _ (ah_lo_null sa _ _))
  have body : ∀ (p : Program) (e : Env) (s : State) (m : MethodId) (args : Array Value) (below : List Frame) (meth : Method) (cd : Code) (s₁ : State), BodyLoose p l Y.1 (headSpec (zz_ws Y) (zz_rm f c z)) Y.2.1 Y.2.2.1 Y.2.2.2.1 e s m args below meth cd s₁ → cd.maxLocals = Y.2.2.1 → cd.exceptionTable.toList = tableOf Y.2.2.2.2 → zz_Pc D sa base as h args s →
      W p l e (headSpec (zz_ws Y) (zz_rm f c z)).room s m args below meth cd s.heap [] 0 0 (vx_MQ below (zz_Qc D sa base Q) (zz_XC D base Q) args s c z (zz_A base)) (entryFrame m args Y.2.2.1) := by
    intro p e s m args below meth cd s₁ B hml hta hv
    obtain ⟨rfl, Z, K, hb⟩ := hv
    have hts := atoms_spec (ws := zz_ws Y) B.pre
    have hall : ∀ w ∈ lw_all, w.before (as.map (ah_v sa)).toArray s = true := fun w hw => hts w (by
      unfold zz_ws
      split
      · exact List.mem_cons_of_mem _ hw
      · exact List.mem_cons_of_mem _ hw)
    have hown : s.vm.findClass Y.1.cls = some m.cls := findClass_of_methodNamed B.named
    have hin : meth.name = Y.1.name := (name_of_methodNamed B.named B.method).1
    have hL := lv_entry (as.map (ah_v sa)) (n := Y.2.2.1) hn'
    rw [lg_entry_eq]
    exact k D sa base p l e (zz_rm f c z) s m (as.map (ah_v sa)).toArray below meth cd s.heap [] 0 0 _ ⟨⟨B.exec, B.bytes, hml, hown, hall, B.returns, B.notSynchronized, hin, hl, hta⟩, ⟨rfl, rfl⟩, K, hb, Z, va_S.rf, hent hL, by show 0 + c ≤ c; omega, by show 0 + z ≤ z; omega⟩
  obtain ⟨y, cc, maxL, ret, hh⟩ := Y
  cases hh with
  | nil => exact vx_ofW hp rfl (fun p e s m args below meth cd s₁ B hml ht hv => body p e s m args below meth cd s₁ B hml (by
      cases hx : cd.exceptionTable.toList with
      | nil => rfl
      | cons x t => exact (ht x (by rw [hx]; exact List.mem_cons_self)).elim) hv)
  | cons q hh => exact vx_ofWH hp rfl (fun p e s m args below meth cd s₁ B hml hv => body p e s m args below meth cd s₁ B hml (vx_table (x := y) B (atoms_spec (ws := zz_ws (y, cc, maxL, ret, q :: hh)) B.pre _ List.mem_cons_self)) hv)
