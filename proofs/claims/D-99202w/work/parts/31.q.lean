/-! A BOAT AS A VALUE: omens, people, the numbers by their place (0 plank, 1 habit, 2 odds, 3 omens, 4 people, 5 calls, 6 aboard, 7 shown), the rows (10 pull, 11 hold, 12 excused, 13 blind, 14 sat) -/
abbrev BV : Type := Nat × Nat × (Nat → Int32) × (Nat → Nat → Int32)
def bO (B : BV) : Nat := B.1
def bP (B : BV) : Nat := B.2.1
def bS (B : BV) : Nat → Int32 := B.2.2.1
def bA (B : BV) : Nat → Nat → Int32 := B.2.2.2
/-- counted loops, backwards -/
theorem loop_up {P : Nat → Prop} (n : Nat) (hlast : P n) (hstep : ∀ k, k < n → P (k + 1) → P k) : ∀ k, k ≤ n → P k := by
  intro k hk
  obtain ⟨d, hd⟩ : ∃ d, k + d = n := ⟨n - k, by omega⟩
  induction d generalizing k with
  | zero => rw [Nat.add_zero] at hd; rw [hd]; exact hlast
  | succ d ih => exact hstep k (by omega) (ih (k + 1) (by omega) (by omega))
theorem loop_up0 {P : Nat → Prop} (n : Nat) (hlast : P n) (hstep : ∀ k, k < n → P (k + 1) → P k) : P 0 := loop_up n hlast hstep 0 (Nat.zero_le _)
/-- what an omen set pulls on one who is excused from some -/
def q_pull (pull : Nat → Int32) (exc set : Int32) : Nat → Int32
  | 0 => 0
  | k + 1 => q_pull pull exc set k + (if bt set k = true ∧ bt exc k = false then pull k else 0)
def q_max0 (x : Int32) : Int32 := if (0 : Int32) < x then x else 0
def q_needBy (B : BV) (p : Nat) (much set : Int32) : Int32 := q_max0 (much - q_pull (bA B 10) (bA B 12 p) set (bO B))
def q_need (B : BV) (p : Nat) (set : Int32) : Int32 := q_needBy B p (bA B 11 p) set
def q_all (B : BV) : Int32 := bitI (bP B) - 1
def q_sees (B : BV) (p : Nat) : Int32 := q_all B &&& (bA B 13 p ^^^ (-1)) &&& (bitI p ^^^ (-1))
/-- Integer.bitCount, as its code has it -/
def q_ush (x n : Int32) : Int32 := (x.toUInt32 >>> (n.toUInt32 &&& Int32.toUInt32 31)).toInt32
def q_pc1 (x : Int32) : Int32 := x - (q_ush x 1 &&& 1431655765)
def q_pc2 (x : Int32) : Int32 := (x &&& 858993459) + (q_ush x 2 &&& 858993459)
def q_pc3 (x : Int32) : Int32 := (x + q_ush x 4) &&& 252645135
def q_pc4 (x : Int32) : Int32 := x + q_ush x 8
def q_pc5 (x : Int32) : Int32 := x + q_ush x 16
def q_pc (x : Int32) : Int32 := q_pc5 (q_pc4 (q_pc3 (q_pc2 (q_pc1 x)))) &&& 63
def q_dares (B : BV) (p : Nat) (set up : Int32) : Bool := decide (q_need B p set ≤ q_pc (q_sees B p &&& up))
def q_upB (B : BV) (set up : Int32) (k : Nat) : Bool := bt (bS B 6) k && !bt up k && q_dares B k set up
def q_roundL (B : BV) (set up : Int32) : Nat → Int32
  | 0 => up
  | k + 1 => if q_upB B set up k = true then q_roundL B set up k ||| bitI k else q_roundL B set up k
def q_round (B : BV) (set up : Int32) : Int32 := q_roundL B set up (bP B)
def q_rise (B : BV) (set : Int32) : Nat → Int32 → Int32
  | 0, up => up
  | n + 1, up => if q_round B set up = up then up else q_rise B set n (q_round B set up)
def q_many (B : BV) (set : Int32) : Nat → Int32 → Nat
  | 0, _ => 0
  | n + 1, up => if q_round B set up = up then 0 else q_many B set n (q_round B set up) + 1
/-- the plank as a number -/
def bPl (B : BV) : Nat := (bS B 0).toNatClampNeg
def q_outBy (B : BV) (set : Int32) : Int32 := q_rise B set (bPl B) 0
def q_rest (B : BV) (set seeds : Int32) : Int32 := q_rise B set 9 seeds
def q_sum (f : Nat → Int32) : Nat → Int32
  | 0 => 0
  | k + 1 => q_sum f k + f k
def q_allSat (B : BV) : Int32 := q_sum (bA B 14) (bP B)
def q_restB (B : BV) (up set : Int32) (p : Nat) : Bool := !bt (bS B 6) p || (bt up p == q_dares B p set up)
