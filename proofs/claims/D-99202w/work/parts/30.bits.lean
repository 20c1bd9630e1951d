def bt (x : Int32) (i : Nat) : Bool := x.toBitVec.getLsbD i
theorem b_ext {x y : Int32} (h : ∀ i, i < 32 → bt x i = bt y i) : x = y := Int32.toBitVec_inj.mp (BitVec.eq_of_getLsbD_eq (fun i hi => h i hi))
theorem b_or (x y : Int32) (i : Nat) : bt (x ||| y) i = (bt x i || bt y i) := by unfold bt; rw [Int32.toBitVec_or, BitVec.getLsbD_or]
theorem b_and (x y : Int32) (i : Nat) : bt (x &&& y) i = (bt x i && bt y i) := by unfold bt; rw [Int32.toBitVec_and, BitVec.getLsbD_and]
theorem b_xor (x y : Int32) (i : Nat) : bt (x ^^^ y) i = (bt x i ^^ bt y i) := by unfold bt; rw [Int32.toBitVec_xor, BitVec.getLsbD_xor]
theorem b_big {x : Int32} {i : Nat} (h : 32 ≤ i) : bt x i = false := BitVec.getLsbD_of_ge _ _ h
theorem b_255 (i : Nat) : bt 255 i = decide (i < 8) := by
  rcases Nat.lt_or_ge i 32 with h | h
  · exact (by decide +kernel : ∀ i, i < 32 → bt 255 i = decide (i < 8)) i h
  · rw [b_big h, decide_eq_false (by omega)]
theorem b_65535 (i : Nat) : bt 65535 i = decide (i < 16) := by
  rcases Nat.lt_or_ge i 32 with h | h
  · exact (by decide +kernel : ∀ i, i < 32 → bt 65535 i = decide (i < 16)) i h
  · rw [b_big h, decide_eq_false (by omega)]
theorem b_m1 : ∀ i, i < 32 → bt (-1) i = true := by decide +kernel
theorem b_0 (i : Nat) : bt 0 i = false := BitVec.getLsbD_zero
theorem s_l : ∀ n, n < 32 → ((nI n &&& 31).toBitVec.smod 32).toNat = n := by decide +kernel
theorem s_u : ∀ n, n < 32 → (((nI n).toUInt32 &&& Int32.toUInt32 31).toBitVec % 32).toNat = n := by decide +kernel
theorem b_shl (n : Nat) (hn : n < 32) (x : Int32) {i : Nat} (hi : i < 32) : bt (x <<< (nI n &&& 31)) i = (decide (n ≤ i) && bt x (i - n)) := by
  unfold bt
  rw [Int32.toBitVec_shiftLeft]
  show (x.toBitVec <<< ((nI n &&& 31).toBitVec.smod 32).toNat).getLsbD i = _
  rw [s_l n hn, BitVec.getLsbD_shiftLeft]
  rcases Nat.lt_or_ge i n with h | h
  · simp [h, Nat.not_le.mpr h]
  · simp [hi, h, Nat.not_lt.mpr h]
theorem b_ushr (n : Nat) (hn : n < 32) (x : Int32) (i : Nat) : bt ((x.toUInt32 >>> ((nI n).toUInt32 &&& Int32.toUInt32 31)).toInt32) i = bt x (n + i) := by
  show (x.toUInt32 >>> ((nI n).toUInt32 &&& Int32.toUInt32 31)).toBitVec.getLsbD i = x.toUInt32.toBitVec.getLsbD (n + i)
  rw [UInt32.toBitVec_shiftRight]
  show (x.toUInt32.toBitVec >>> (((nI n).toUInt32 &&& Int32.toUInt32 31).toBitVec % 32).toNat).getLsbD i = _
  rw [s_u n hn, BitVec.getLsbD_ushiftRight]
theorem b_sshr (n : Nat) (hn : n < 32) (x : Int32) {i : Nat} (hi : i < 32) : bt (x >>> (nI n &&& 31)) i = if n + i < 32 then bt x (n + i) else bt x 31 := by
  unfold bt
  rw [Int32.toBitVec_shiftRight]
  show (x.toBitVec.sshiftRight ((nI n &&& 31).toBitVec.smod 32).toNat).getLsbD i = _
  rw [s_l n hn, BitVec.getLsbD_sshiftRight, BitVec.msb_eq_getLsbD_last]
  simp [hi]
theorem b_shl8 (x : Int32) {i : Nat} (hi : i < 32) : bt (x <<< ((8 : Int32) &&& 31)) i = (decide (8 ≤ i) && bt x (i - 8)) := b_shl 8 (by omega) x hi
theorem b_shl16 (x : Int32) {i : Nat} (hi : i < 32) : bt (x <<< ((16 : Int32) &&& 31)) i = (decide (16 ≤ i) && bt x (i - 16)) := b_shl 16 (by omega) x hi
theorem b_shl24 (x : Int32) {i : Nat} (hi : i < 32) : bt (x <<< ((24 : Int32) &&& 31)) i = (decide (24 ≤ i) && bt x (i - 24)) := b_shl 24 (by omega) x hi
theorem b_sshr8 (x : Int32) {i : Nat} (hi : i < 32) : bt (x >>> ((8 : Int32) &&& 31)) i = if 8 + i < 32 then bt x (8 + i) else bt x 31 := b_sshr 8 (by omega) x hi
/-- the k-th bit alone -/
def bitI (k : Nat) : Int32 := (1 : Int32) <<< (nI k &&& 31)
theorem bt_bit {k i : Nat} (hk : k < 32) (hi : i < 32) : bt (bitI k) i = decide (i = k) := by
  unfold bitI
  rw [b_shl k hk 1 hi]
  by_cases h : k ≤ i
  · by_cases e : i = k
    · subst e
      simp
      decide
    · have : bt 1 (i - k) = false := (by decide +kernel : ∀ j, j < 32 → 0 < j → bt 1 j = false) (i - k) (by omega) (by omega)
      simp [h, e, this]
  · have e : ¬ i = k := by omega
    simp [h, e]
theorem bt_not {x : Int32} {i : Nat} (hi : i < 32) : bt (x ^^^ (-1)) i = !bt x i := by
  rw [b_xor, b_m1 i hi]
  cases bt x i <;> rfl
/-- the bit as Java asks for it -/
theorem bt_ask {x : Int32} {k : Nat} (hk : k < 32) : ((x >>> (nI k &&& 31)) &&& 1 = 1) ↔ bt x k = true := by
  have h0 : bt (x >>> (nI k &&& 31)) 0 = bt x k := by
    rw [b_sshr k hk x (by omega)]
    simp [hk]
  constructor
  · intro e
    have : bt ((x >>> (nI k &&& 31)) &&& 1) 0 = bt 1 0 := by rw [e]
    rw [b_and, h0] at this
    have h1 : bt 1 0 = true := by decide +kernel
    rw [h1, Bool.and_true] at this
    exact this
  · intro e
    apply b_ext
    intro i hi
    rw [b_and]
    by_cases hi0 : i = 0
    · subst hi0
      rw [h0, e]
      rfl
    · have : bt 1 i = false := (by decide +kernel : ∀ j, j < 32 → 0 < j → bt 1 j = false) i hi (by omega)
      rw [this, Bool.and_false]
theorem i_1_0 : ((1 : Int32) = 0) = False := eq_false (by decide)
theorem i_0_1 : ((0 : Int32) = 1) = False := eq_false (by decide)
theorem i_m1_0 : ((-1 : Int32) = 0) = False := eq_false (by decide)
theorem i_0_m1 : ((0 : Int32) = -1) = False := eq_false (by decide)
theorem i_2_0 : ((2 : Int32) = 0) = False := eq_false (by decide)
theorem i_2_1 : ((2 : Int32) = 1) = False := eq_false (by decide)
theorem i_1_2 : ((1 : Int32) = 2) = False := eq_false (by decide)
theorem i_0_2 : ((0 : Int32) = 2) = False := eq_false (by decide)
theorem i_3_0 : ((3 : Int32) = 0) = False := eq_false (by decide)
theorem i_3_1 : ((3 : Int32) = 1) = False := eq_false (by decide)
theorem i_3_2 : ((3 : Int32) = 2) = False := eq_false (by decide)
theorem i_4_0 : ((4 : Int32) = 0) = False := eq_false (by decide)
theorem i_4_1 : ((4 : Int32) = 1) = False := eq_false (by decide)
theorem i_4_2 : ((4 : Int32) = 2) = False := eq_false (by decide)
theorem i_4_3 : ((4 : Int32) = 3) = False := eq_false (by decide)
theorem i_5_0 : ((5 : Int32) = 0) = False := eq_false (by decide)
theorem i_5_1 : ((5 : Int32) = 1) = False := eq_false (by decide)
theorem i_5_2 : ((5 : Int32) = 2) = False := eq_false (by decide)
theorem i_5_3 : ((5 : Int32) = 3) = False := eq_false (by decide)
theorem i_5_4 : ((5 : Int32) = 4) = False := eq_false (by decide)
theorem i_6_0 : ((6 : Int32) = 0) = False := eq_false (by decide)
theorem i_6_1 : ((6 : Int32) = 1) = False := eq_false (by decide)
theorem i_6_2 : ((6 : Int32) = 2) = False := eq_false (by decide)
theorem i_6_3 : ((6 : Int32) = 3) = False := eq_false (by decide)
theorem i_6_4 : ((6 : Int32) = 4) = False := eq_false (by decide)
theorem i_6_5 : ((6 : Int32) = 5) = False := eq_false (by decide)
theorem i32_sub_add (a b c : Int32) : a - (b + c) = a - b - c := by grind
theorem sI_sI {h : AH} {r k : Nat} {v w : Int32} : ah_sI (ah_sI h r k v) r k w = ah_sI h r k w := by
  show (ah_D h, ah_T h, ah_N h, ah_up (ah_up (ah_I h) r k v) r k w, ah_L h, ah_R h) = (ah_D h, ah_T h, ah_N h, ah_up (ah_I h) r k w, ah_L h, ah_R h)
  congr 4
  funext x j
  simp only [ah_up]
  split <;> rfl
theorem sL_sL {h : AH} {r k : Nat} {v w : Int64} : ah_sL (ah_sL h r k v) r k w = ah_sL h r k w := by
  show (ah_D h, ah_T h, ah_N h, ah_I h, ah_up (ah_up (ah_L h) r k v) r k w, ah_R h) = (ah_D h, ah_T h, ah_N h, ah_I h, ah_up (ah_L h) r k w, ah_R h)
  congr 5
  funext x j
  simp only [ah_up]
  split <;> rfl
theorem cl_0 : (0 : Int32).toNatClampNeg = 0 := by decide
theorem cl_1 : (1 : Int32).toNatClampNeg = 1 := by decide
theorem cl_2 : (2 : Int32).toNatClampNeg = 2 := by decide
theorem cl_3 : (3 : Int32).toNatClampNeg = 3 := by decide
theorem cl_4 : (4 : Int32).toNatClampNeg = 4 := by decide
theorem cl_5 : (5 : Int32).toNatClampNeg = 5 := by decide
theorem cl_6 : (6 : Int32).toNatClampNeg = 6 := by decide
theorem cl_7 : (7 : Int32).toNatClampNeg = 7 := by decide
theorem cl_8 : (8 : Int32).toNatClampNeg = 8 := by decide
theorem vm_0 : vp_in 0 2592 := by unfold vp_in; decide
theorem vm_1 : vp_in 1 2592 := by unfold vp_in; decide
theorem vm_2 : vp_in 2 2592 := by unfold vp_in; decide
theorem vm_3 : vp_in 3 2592 := by unfold vp_in; decide
theorem vm_4 : vp_in 4 2592 := by unfold vp_in; decide
theorem vm_5 : vp_in 5 2592 := by unfold vp_in; decide
theorem vm_6 : vp_in 6 2592 := by unfold vp_in; decide
theorem vm_7 : vp_in 7 2592 := by unfold vp_in; decide
theorem vm_8 : vp_in 8 2592 := by unfold vp_in; decide
/-- a set of at most eight -/
def b_sm (x : Int32) : Prop := ∀ i, 8 ≤ i → i < 32 → bt x i = false
theorem b_sm_nI {x : Int32} (h : b_sm x) : ∃ s, s < 256 ∧ x = nI s := by
  refine ⟨x.toBitVec.toNat, ?_, ?_⟩
  · have h2 : x.toBitVec.toNat < 2 ^ 8 := by
      apply Nat.lt_pow_two_of_testBit
      intro i hi
      rcases Nat.lt_or_ge i 32 with g | g
      · exact h i hi g
      · exact BitVec.getLsbD_of_ge _ _ g
    exact h2
  · apply Int32.toBitVec_inj.mp
    apply BitVec.eq_of_toNat_eq
    rw [pk_tn x.toBitVec.isLt]
theorem nI_sm {s : Nat} (h : s < 256) : b_sm (nI s) := by
  intro i h1 h2
  have h3 : (nI s).toBitVec.toNat = s := pk_tn (by omega)
  show (nI s).toBitVec.toNat.testBit i = false
  rw [h3]
  exact Nat.testBit_lt_two_pow (Nat.lt_of_lt_of_le h (Nat.pow_le_pow_right (by decide) h1 : 2 ^ 8 ≤ 2 ^ i))
theorem b_sm_and {x y : Int32} (h : b_sm x) : b_sm (x &&& y) := fun i h1 h2 => by rw [b_and, h i h1 h2]; rfl
theorem b_sm_andr {x y : Int32} (h : b_sm y) : b_sm (x &&& y) := fun i h1 h2 => by rw [b_and, h i h1 h2, Bool.and_false]
theorem b_sm_or {x y : Int32} (h : b_sm x) (g : b_sm y) : b_sm (x ||| y) := fun i h1 h2 => by rw [b_or, h i h1 h2, g i h1 h2]; rfl
theorem b_sm_bit {k : Nat} (h : k < 8) : b_sm (bitI k) := fun i h1 h2 => by rw [bt_bit (by omega) h2]; exact decide_eq_false (by omega)
theorem b_sm_0 : b_sm 0 := fun i _ _ => b_0 i
theorem bt_all : ∀ n, n < 9 → ∀ i, i < 32 → bt (bitI n - 1) i = decide (i < n) := by decide +kernel
