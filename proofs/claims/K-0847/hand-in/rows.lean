section
/-! ===== Int32 by its bits: bt x i (these rows began as rows of kit/rows/BITS.to-paste) ===== -/
def bt (x : Int32) (i : Nat) : Bool := x.toBitVec.getLsbD i
theorem b_ext {x y : Int32} (h : ∀ i, i < 32 → bt x i = bt y i) : x = y := Int32.toBitVec_inj.mp (BitVec.eq_of_getLsbD_eq (fun i hi => h i hi))
theorem b_or (x y : Int32) (i : Nat) : bt (x ||| y) i = (bt x i || bt y i) := by unfold bt; rw [Int32.toBitVec_or, BitVec.getLsbD_or]
theorem b_and (x y : Int32) (i : Nat) : bt (x &&& y) i = (bt x i && bt y i) := by unfold bt; rw [Int32.toBitVec_and, BitVec.getLsbD_and]
theorem b_big {x : Int32} {i : Nat} (h : 32 ≤ i) : bt x i = false := BitVec.getLsbD_of_ge _ _ h
theorem b_0 (i : Nat) : bt 0 i = false := BitVec.getLsbD_zero
theorem s_l : ∀ n, n < 32 → ((nI n &&& 31).toBitVec.smod 32).toNat = n := by decide +kernel
theorem s_u : ∀ n, n < 32 → (((nI n).toUInt32 &&& Int32.toUInt32 31).toBitVec % 32).toNat = n := by decide +kernel
theorem b_shl (n : Nat) (hn : n < 32) (x : Int32) {i : Nat} (hi : i < 32) : bt (x <<< (nI n &&& 31)) i = (decide (n ≤ i) && bt x (i - n)) := by
  unfold bt
  rw [Int32.toBitVec_shiftLeft]
  show (x.toBitVec <<< ((nI n &&& 31).toBitVec.smod 32).toNat).getLsbD i = _
  rw [s_l n hn, BitVec.getLsbD_shiftLeft]
  rcases Nat.lt_or_ge i n with h | h
  · simp [h, Nat.not_le.mpr h]
  · simp [hi, h, Nat.not_lt.mpr h]
theorem b_ushr (n : Nat) (hn : n < 32) (x : Int32) (i : Nat) : bt ((x.toUInt32 >>> ((nI n).toUInt32 &&& Int32.toUInt32 31)).toInt32) i = bt x (n + i) := by
  show (x.toUInt32 >>> ((nI n).toUInt32 &&& Int32.toUInt32 31)).toBitVec.getLsbD i = x.toUInt32.toBitVec.getLsbD (n + i)
  rw [UInt32.toBitVec_shiftRight]
  show (x.toUInt32.toBitVec >>> (((nI n).toUInt32 &&& Int32.toUInt32 31).toBitVec % 32).toNat).getLsbD i = _
  rw [s_u n hn, BitVec.getLsbD_ushiftRight]
/-! ===== Int64 by its bits: dk_b x i ===== -/
def dk_b (x : Int64) (i : Nat) : Bool := x.toBitVec.getLsbD i
theorem dk_bor (x y : Int64) (i : Nat) : dk_b (x ||| y) i = (dk_b x i || dk_b y i) := by unfold dk_b; rw [Int64.toBitVec_or, BitVec.getLsbD_or]
theorem dk_band (x y : Int64) (i : Nat) : dk_b (x &&& y) i = (dk_b x i && dk_b y i) := by unfold dk_b; rw [Int64.toBitVec_and, BitVec.getLsbD_and]
theorem dk_bxor (x y : Int64) (i : Nat) : dk_b (x ^^^ y) i = (dk_b x i ^^ dk_b y i) := by unfold dk_b; rw [Int64.toBitVec_xor, BitVec.getLsbD_xor]
theorem dk_bbig {x : Int64} {i : Nat} (h : 64 ≤ i) : dk_b x i = false := BitVec.getLsbD_of_ge _ _ h
theorem dk_b0 (i : Nat) : dk_b 0 i = false := BitVec.getLsbD_zero
theorem dk_sl : ∀ n, n < 64 → (((nI n).toInt64 &&& 63).toBitVec.smod 64).toNat = n := by decide +kernel
theorem dk_su : ∀ n, n < 64 → (((nI n).toInt64.toUInt64 &&& Int64.toUInt64 63).toBitVec % 64).toNat = n := by decide +kernel
theorem dk_bshl (n : Nat) (hn : n < 64) (x : Int64) {i : Nat} (hi : i < 64) : dk_b (x <<< ((nI n).toInt64 &&& 63)) i = (decide (n ≤ i) && dk_b x (i - n)) := by
  unfold dk_b
  rw [Int64.toBitVec_shiftLeft]
  show (x.toBitVec <<< (((nI n).toInt64 &&& 63).toBitVec.smod 64).toNat).getLsbD i = _
  rw [dk_sl n hn, BitVec.getLsbD_shiftLeft]
  rcases Nat.lt_or_ge i n with h | h
  · simp [h, Nat.not_le.mpr h]
  · simp [hi, h, Nat.not_lt.mpr h]
theorem dk_bushr (n : Nat) (hn : n < 64) (x : Int64) (i : Nat) : dk_b ((x.toUInt64 >>> ((nI n).toInt64.toUInt64 &&& Int64.toUInt64 63)).toInt64) i = dk_b x (n + i) := by
  show (x.toUInt64 >>> ((nI n).toInt64.toUInt64 &&& Int64.toUInt64 63)).toBitVec.getLsbD i = x.toUInt64.toBitVec.getLsbD (n + i)
  rw [UInt64.toBitVec_shiftRight]
  show (x.toUInt64.toBitVec >>> (((nI n).toInt64.toUInt64 &&& Int64.toUInt64 63).toBitVec % 64).toNat).getLsbD i = _
  rw [dk_su n hn, BitVec.getLsbD_ushiftRight]
/-- the low half of a long -/
theorem dk_blow (x : Int64) {i : Nat} (hi : i < 32) : bt x.toInt32 i = dk_b x i := by
  unfold bt dk_b
  rw [Int64.toBitVec_toInt32, BitVec.getLsbD_signExtend, if_pos (by omega), decide_eq_true hi, Bool.true_and]
/-- an int without its bits 28 .. 31, as a long -/
theorem dk_bwide {x : Int32} (hx : ∀ i, 28 ≤ i → bt x i = false) (i : Nat) : dk_b x.toInt64 i = bt x i := by
  rcases Nat.lt_or_ge i 64 with h | h
  · unfold dk_b
    rw [Int32.toBitVec_toInt64, BitVec.getLsbD_signExtend, decide_eq_true h, Bool.true_and]
    rcases Nat.lt_or_ge i 32 with g | g
    · rw [if_pos g]; rfl
    · rw [if_neg (by omega), BitVec.msb_eq_getLsbD_last, b_big g]
      exact hx 31 (by omega)
  · rw [dk_bbig h, b_big (by omega)]
/-! ===== the masks ===== -/
theorem dk_m28 (i : Nat) : bt 268435455 i = decide (i < 28) := by
  rcases Nat.lt_or_ge i 32 with h | h
  · exact (by decide +kernel : ∀ i, i < 32 → bt 268435455 i = decide (i < 28)) i h
  · rw [b_big h, decide_eq_false (by omega)]
theorem dk_m1 (i : Nat) : bt 1 i = decide (i = 0) := by
  rcases Nat.lt_or_ge i 32 with h | h
  · exact (by decide +kernel : ∀ i, i < 32 → bt 1 i = decide (i = 0)) i h
  · rw [b_big h, decide_eq_false (by omega)]
theorem dk_mL1 (i : Nat) : dk_b 1 i = decide (i = 0) := by
  rcases Nat.lt_or_ge i 64 with h | h
  · exact (by decide +kernel : ∀ i, i < 64 → dk_b 1 i = decide (i = 0)) i h
  · rw [dk_bbig h, decide_eq_false (by omega)]
theorem dk_mT (i : Nat) : dk_b 36028797153181696 i = decide (i = 55 ∨ i = 27) := by
  rcases Nat.lt_or_ge i 64 with h | h
  · exact (by decide +kernel : ∀ i, i < 64 → dk_b 36028797153181696 i = decide (i = 55 ∨ i = 27)) i h
  · rw [dk_bbig h, decide_eq_false (by omega)]
theorem dk_mB (i : Nat) : dk_b 268435457 i = decide (i = 28 ∨ i = 0) := by
  rcases Nat.lt_or_ge i 64 with h | h
  · exact (by decide +kernel : ∀ i, i < 64 → dk_b 268435457 i = decide (i = 28 ∨ i = 0)) i h
  · rw [dk_bbig h, decide_eq_false (by omega)]
end
section
/-! ===== the component's rotations of one half, by bits ===== -/
/-- no bit at 28 or above -/
def dk_Z (x : Int32) : Prop := ∀ i, 28 ≤ i → bt x i = false
/-- a half rotated left by s -/
def dk_l (s : Nat) (x : Int32) : Int32 := ((x <<< (nI s &&& 31)) ||| ((x.toUInt32 >>> ((nI (28 - s)).toUInt32 &&& Int32.toUInt32 31)).toInt32)) &&& 268435455
/-- a half rotated right by s -/
def dk_r (s : Nat) (x : Int32) : Int32 := (((x.toUInt32 >>> ((nI s).toUInt32 &&& Int32.toUInt32 31)).toInt32) ||| (x <<< (nI (28 - s) &&& 31))) &&& 268435455
theorem dk_Zm (x : Int32) : dk_Z (x &&& 268435455) := by
  intro i h
  rw [b_and, dk_m28, decide_eq_false (by omega), Bool.and_false]
theorem dk_Zl (s : Nat) (x : Int32) : dk_Z (dk_l s x) := dk_Zm _
theorem dk_Zr (s : Nat) (x : Int32) : dk_Z (dk_r s x) := dk_Zm _
theorem dk_Z0 : dk_Z 0 := fun i _ => b_0 i
theorem dk_lb (s : Nat) (h0 : 0 < s) (hs : s ≤ 28) {x : Int32} (hx : dk_Z x) {i : Nat} (h : i < 28) : bt (dk_l s x) i = if s ≤ i then bt x (i - s) else bt x (i + 28 - s) := by
  unfold dk_l
  rw [b_and, dk_m28, b_or, b_shl s (by omega) x (by omega), b_ushr (28 - s) (by omega), decide_eq_true h, Bool.and_true]
  by_cases g : s ≤ i
  · rw [if_pos g, hx (28 - s + i) (by omega), decide_eq_true g, Bool.true_and, Bool.or_false]
  · rw [if_neg g, decide_eq_false g, Bool.false_and, Bool.false_or, show 28 - s + i = i + 28 - s by omega]
theorem dk_rb (s : Nat) (h0 : 0 < s) (hs : s ≤ 28) {x : Int32} (hx : dk_Z x) {i : Nat} (h : i < 28) : bt (dk_r s x) i = if i + s < 28 then bt x (i + s) else bt x (i + s - 28) := by
  unfold dk_r
  rw [b_and, dk_m28, b_or, b_ushr s (by omega), b_shl (28 - s) (by omega) x (by omega), decide_eq_true h, Bool.and_true]
  by_cases g : i + s < 28
  · rw [if_pos g, decide_eq_false (by omega), Bool.false_and, Bool.or_false, Nat.add_comm]
  · rw [if_neg g, hx (s + i) (by omega), decide_eq_true (by omega), Bool.true_and, Bool.false_or, show i - (28 - s) = i + s - 28 by omega]
/-- twice by one is once by two -/
theorem dk_l2 {x : Int32} (hx : dk_Z x) : dk_l 1 (dk_l 1 x) = dk_l 2 x := by
  apply b_ext
  intro i _
  by_cases h : i < 28
  · rw [dk_lb 1 (by decide) (by decide) (dk_Zl 1 x) h, dk_lb 2 (by decide) (by decide) hx h]
    by_cases g : 1 ≤ i
    · rw [if_pos g, dk_lb 1 (by decide) (by decide) hx (by omega)]
      by_cases g2 : 2 ≤ i
      · rw [if_pos g2, if_pos (by omega), show i - 1 - 1 = i - 2 by omega]
      · rw [if_neg g2, if_neg (by omega), show i - 1 + 28 - 1 = i + 28 - 2 by omega]
    · rw [if_neg g, dk_lb 1 (by decide) (by decide) hx (by omega), if_pos (by omega), if_neg (by omega), show i + 28 - 1 - 1 = i + 28 - 2 by omega]
  · rw [dk_Zl 1 _ i (by omega), dk_Zl 2 _ i (by omega)]
theorem dk_r2 {x : Int32} (hx : dk_Z x) : dk_r 1 (dk_r 1 x) = dk_r 2 x := by
  apply b_ext
  intro i _
  by_cases h : i < 28
  · rw [dk_rb 1 (by decide) (by decide) (dk_Zr 1 x) h, dk_rb 2 (by decide) (by decide) hx h]
    by_cases g : i + 1 < 28
    · rw [if_pos g, dk_rb 1 (by decide) (by decide) hx (by omega)]
    · rw [if_neg g, dk_rb 1 (by decide) (by decide) hx (by omega), if_pos (by omega), if_neg (by omega), show i + 1 - 28 + 1 = i + 2 - 28 by omega]
  · rw [dk_Zr 1 _ i (by omega), dk_Zr 2 _ i (by omega)]
/-! ===== the reference's rotations of the whole key, by bits ===== -/
def dk_yl (k : Int64) : Int64 := ((k ^^^ (k &&& 36028797153181696)) <<< ((nI 1).toInt64 &&& 63)) ||| (((k &&& 36028797153181696).toUInt64 >>> ((nI 27).toInt64.toUInt64 &&& Int64.toUInt64 63)).toInt64)
def dk_yr (k : Int64) : Int64 := (((k ^^^ (k &&& 268435457)).toUInt64 >>> ((nI 1).toInt64.toUInt64 &&& Int64.toUInt64 63)).toInt64) ||| ((k &&& 268435457) <<< ((nI 27).toInt64 &&& 63))
theorem dk_ylb (k : Int64) {i : Nat} (hi : i < 64) : dk_b (dk_yl k) i = if i = 0 then dk_b k 27 else if i = 28 then dk_b k 55 else if i = 56 then false else dk_b k (i - 1) := by
  unfold dk_yl
  rw [dk_bor, dk_bshl 1 (by decide) _ hi, dk_bushr 27 (by decide), dk_bxor, dk_band, dk_band, dk_mT, dk_mT]
  by_cases h0 : i = 0
  · subst h0; simp
  · by_cases h1 : i = 28
    · subst h1; simp
    · by_cases h2 : i = 56
      · subst h2; simp
      · rw [if_neg h0, if_neg h1, if_neg h2, decide_eq_true (show 1 ≤ i by omega), decide_eq_false (show ¬ (i - 1 = 55 ∨ i - 1 = 27) by omega), decide_eq_false (show ¬ (27 + i = 55 ∨ 27 + i = 27) by omega)]
        simp
theorem dk_yrb (k : Int64) {i : Nat} (hi : i < 64) : dk_b (dk_yr k) i = if i = 27 then dk_b k 0 else if i = 55 then (dk_b k 56 || dk_b k 28) else dk_b k (i + 1) := by
  unfold dk_yr
  rw [dk_bor, dk_bushr 1 (by decide), dk_bshl 27 (by decide) _ hi, dk_bxor, dk_band, dk_band, dk_mB, dk_mB]
  by_cases h0 : i = 27
  · subst h0; simp
  · by_cases h1 : i = 55
    · subst h1; simp
    · rw [if_neg h0, if_neg h1, decide_eq_false (show ¬ (1 + i = 28 ∨ 1 + i = 0) by omega), Nat.add_comm 1 i]
      by_cases g : 27 ≤ i
      · rw [decide_eq_false (show ¬ (i - 27 = 28 ∨ i - 27 = 0) by omega)]; simp
      · rw [decide_eq_false g]; simp
/-! ===== the two pictures of one key ===== -/
/-- the halves c and d against the key: c in bits 55 .. 28, d in bits 27 .. 0 -/
def dk_R (c d : Int32) (k : Int64) : Prop := dk_Z c ∧ dk_Z d ∧ ∀ i, dk_b k i = if i < 28 then bt d i else bt c (i - 28)
theorem dk_Rlo {c d : Int32} {k : Int64} (R : dk_R c d k) {i : Nat} (h : i < 28) : dk_b k i = bt d i := by rw [R.2.2 i, if_pos h]
theorem dk_Rhi {c d : Int32} {k : Int64} (R : dk_R c d k) (i : Nat) : dk_b k (i + 28) = bt c i := by rw [R.2.2 (i + 28), if_neg (by omega), Nat.add_sub_cancel]
/-- to show the picture: the low bits, the high bits, nothing above -/
theorem dk_Rmk {c d : Int32} {k : Int64} (hc : dk_Z c) (hd : dk_Z d) (lo : ∀ i, i < 28 → dk_b k i = bt d i) (hi : ∀ i, i < 28 → dk_b k (i + 28) = bt c i) (no : ∀ i, 56 ≤ i → i < 64 → dk_b k i = false) : dk_R c d k := by
  refine ⟨hc, hd, fun i => ?_⟩
  by_cases h : i < 28
  · rw [if_pos h, lo i h]
  · rw [if_neg h]
    by_cases g : i < 56
    · have e := hi (i - 28) (by omega)
      rw [Nat.sub_add_cancel (by omega)] at e
      exact e
    · rw [hc (i - 28) (by omega)]
      by_cases z : i < 64
      · exact no i (by omega) z
      · exact dk_bbig (by omega)
theorem dk_R0 : dk_R 0 0 0 := dk_Rmk dk_Z0 dk_Z0 (fun i _ => by rw [b_0, dk_b0]) (fun i _ => by rw [b_0, dk_b0]) (fun i _ _ => dk_b0 i)
theorem dk_Rl {c d : Int32} {k : Int64} (R : dk_R c d k) : dk_R (dk_l 1 c) (dk_l 1 d) (dk_yl k) := by
  refine dk_Rmk (dk_Zl 1 c) (dk_Zl 1 d) (fun i h => ?_) (fun i h => ?_) (fun i h h' => ?_)
  · rw [dk_ylb k (by omega), dk_lb 1 (by decide) (by decide) R.2.1 h]
    by_cases g : i = 0
    · subst g
      rw [if_pos rfl, if_neg (by decide)]
      exact dk_Rlo R (by decide)
    · rw [if_neg g, if_neg (by omega), if_neg (by omega), if_pos (by omega)]
      exact dk_Rlo R (by omega)
  · rw [dk_ylb k (by omega), dk_lb 1 (by decide) (by decide) R.1 h, if_neg (by omega)]
    by_cases g : i = 0
    · subst g
      rw [if_pos rfl, if_neg (by decide)]
      exact dk_Rhi R 27
    · rw [if_neg (by omega), if_neg (by omega), if_pos (by omega), show i + 28 - 1 = (i - 1) + 28 by omega]
      exact dk_Rhi R (i - 1)
  · rw [dk_ylb k h', if_neg (by omega), if_neg (by omega)]
    by_cases g : i = 56
    · rw [if_pos g]
    · rw [if_neg g, show i - 1 = (i - 29) + 28 by omega, dk_Rhi R]
      exact R.1 _ (by omega)
theorem dk_Rr {c d : Int32} {k : Int64} (R : dk_R c d k) : dk_R (dk_r 1 c) (dk_r 1 d) (dk_yr k) := by
  refine dk_Rmk (dk_Zr 1 c) (dk_Zr 1 d) (fun i h => ?_) (fun i h => ?_) (fun i h h' => ?_)
  · rw [dk_yrb k (by omega), dk_rb 1 (by decide) (by decide) R.2.1 h]
    by_cases g : i = 27
    · subst g
      rw [if_pos rfl, if_neg (by decide)]
      exact dk_Rlo R (by decide)
    · rw [if_neg g, if_neg (by omega), if_pos (by omega)]
      exact dk_Rlo R (by omega)
  · rw [dk_yrb k (by omega), dk_rb 1 (by decide) (by decide) R.1 h, if_neg (by omega)]
    by_cases g : i = 27
    · subst g
      rw [if_pos rfl, if_neg (by decide), show (56 : Nat) = 28 + 28 by rfl, dk_Rhi R 28, R.1 28 (by decide), Bool.false_or]
      exact dk_Rhi R 0
    · rw [if_neg (by omega), if_pos (by omega), show i + 28 + 1 = (i + 1) + 28 by omega]
      exact dk_Rhi R (i + 1)
  · rw [dk_yrb k h', if_neg (by omega), if_neg (by omega), show i + 1 = (i - 27) + 28 by omega, dk_Rhi R]
    exact R.1 _ (by omega)
theorem dk_Rl2 {c d : Int32} {k : Int64} (R : dk_R c d k) : dk_R (dk_l 2 c) (dk_l 2 d) (dk_yl (dk_yl k)) := by
  rw [← dk_l2 R.1, ← dk_l2 R.2.1]
  exact dk_Rl (dk_Rl R)
theorem dk_Rr2 {c d : Int32} {k : Int64} (R : dk_R c d k) : dk_R (dk_r 2 c) (dk_r 2 d) (dk_yr (dk_yr k)) := by
  rw [← dk_r2 R.1, ← dk_r2 R.2.1]
  exact dk_Rr (dk_Rr R)
/-- a key made of two halves -/
theorem dk_Rload (p q : Int32) : dk_R (p &&& 268435455) (q &&& 268435455) ((((p &&& 268435455).toInt64) <<< ((nI 28).toInt64 &&& 63)) ||| ((q &&& 268435455).toInt64)) := by
  refine dk_Rmk (dk_Zm p) (dk_Zm q) (fun i h => ?_) (fun i h => ?_) (fun i h h' => ?_)
  · rw [dk_bor, dk_bshl 28 (by decide) _ (by omega), dk_bwide (dk_Zm p), dk_bwide (dk_Zm q), decide_eq_false (by omega), Bool.false_and, Bool.false_or]
  · rw [dk_bor, dk_bshl 28 (by decide) _ (by omega), dk_bwide (dk_Zm p), dk_bwide (dk_Zm q), decide_eq_true (by omega), Bool.true_and, Nat.add_sub_cancel, dk_Zm q (i + 28) (by omega), Bool.or_false]
  · rw [dk_bor, dk_bshl 28 (by decide) _ (by omega), dk_bwide (dk_Zm p), dk_bwide (dk_Zm q), dk_Zm q i (by omega), dk_Zm p (i - 28) (by omega), Bool.and_false, Bool.or_false]
/-- one bit of the key is one bit of a half -/
theorem dk_Rlow {c d : Int32} {k : Int64} (R : dk_R c d k) {j : Nat} (h : j < 28) : (((k.toUInt64 >>> ((nI j).toInt64.toUInt64 &&& Int64.toUInt64 63)).toInt64) &&& 1).toInt32 = ((d.toUInt32 >>> ((nI j).toUInt32 &&& Int32.toUInt32 31)).toInt32) &&& 1 := by
  apply b_ext
  intro i hi
  rw [dk_blow _ hi, dk_band, dk_bushr j (by omega), dk_mL1, b_and, b_ushr j (by omega), dk_m1]
  by_cases g : i = 0
  · subst g
    rw [Nat.add_zero, dk_Rlo R h]
  · rw [decide_eq_false g, Bool.and_false, Bool.and_false]
theorem dk_Rhigh {c d : Int32} {k : Int64} (R : dk_R c d k) {j : Nat} (h : j < 28) : (((k.toUInt64 >>> ((nI (j + 28)).toInt64.toUInt64 &&& Int64.toUInt64 63)).toInt64) &&& 1).toInt32 = ((c.toUInt32 >>> ((nI j).toUInt32 &&& Int32.toUInt32 31)).toInt32) &&& 1 := by
  apply b_ext
  intro i hi
  rw [dk_blow _ hi, dk_band, dk_bushr (j + 28) (by omega), dk_mL1, b_and, b_ushr j (by omega), dk_m1]
  by_cases g : i = 0
  · subst g
    rw [show j + 28 + 0 = j + 28 from rfl, show j + 0 = j from rfl, dk_Rhi R j]
  · rw [decide_eq_false g, Bool.and_false, Bool.and_false]
end
section
/-! ===== the schedule: 33027 has the bits 0, 1, 8, 15 ===== -/
theorem dk_t16 : ∀ r, r < 16 → (¬ nI r = 16 ∧ nI r < 16) := by decide +kernel
theorem dk_t0 : ∀ r, r < 16 → (¬ nI (r + 1) = 0 ∧ 0 < nI (r + 1)) := by decide +kernel
theorem dk_tab : ∀ r, r < 16 → ((((((33027 : Int32).toUInt32 >>> ((nI r).toUInt32 &&& Int32.toUInt32 31)).toInt32) &&& 1) = 0 ∧ (¬ nI r = 0 ∧ ¬ nI r = 1 ∧ ¬ nI r = 8 ∧ ¬ nI r = 15)) ∨ (¬ ((((33027 : Int32).toUInt32 >>> ((nI r).toUInt32 &&& Int32.toUInt32 31)).toInt32) &&& 1) = 0 ∧ (nI r = 0 ∨ nI r = 1 ∨ nI r = 8 ∨ nI r = 15))) := by decide +kernel
theorem dk_s2 {post : Int32 → Prop} {p : Int32} (h : ¬ p = 0 ∧ ¬ p = 1 ∧ ¬ p = 8 ∧ ¬ p = 15) (hp : post 2) : wpY_shiftOf post p :=
  br_f h.1 (br_f h.2.1 (br_f h.2.2.1 (br_f h.2.2.2 hp)))
theorem dk_s1 {post : Int32 → Prop} {p : Int32} (h : p = 0 ∨ p = 1 ∨ p = 8 ∨ p = 15) (hp : post 1) : wpY_shiftOf post p :=
  br_c (fun _ => hp) (fun a => br_c (fun _ => hp) (fun b => br_c (fun _ => hp) (fun c => br_t (((h.resolve_left a).resolve_left b).resolve_left c) hp)))
theorem dk_w1 {post : SY → Prop} {k : Int64} {r : Int32} (h : post (dk_yl k, r)) : wpY_left1 post (k, r) := by
  intro x ex y ey
  subst ex
  subst ey
  exact h
theorem dk_w2 {post : SY → Prop} {k : Int64} {r : Int32} (h : post (dk_yr k, r)) : wpY_right1 post (k, r) := by
  intro x ex y ey
  subst ex
  subst ey
  exact h
/-! ===== step and back, each side against the rotations ===== -/
theorem dk_x28 {post : Int32 → SX → Prop} {c d : Int32} {r : Nat} (s : Nat) (h28 : 28 - nI s = nI (28 - s)) (hp : post (nI s) (dk_l s c, dk_l s d, nI (r + 1))) : wX_step_28 post (nI s) c d (nI r) := by
  intro a ea b eb e ee
  rw [h28] at ea eb
  rw [nI_1 r] at ee
  subst ea
  subst eb
  subst ee
  exact hp
theorem dk_x36 {post : Int32 → SX → Prop} {c d : Int32} {r : Nat} (s : Nat) (h28 : 28 - nI s = nI (28 - s)) (hp : post (nI s) (dk_r s c, dk_r s d, nI r)) : wX_back_36 post (nI s) c d (nI r) := by
  intro a ea b eb
  rw [h28] at ea eb
  subst ea
  subst eb
  exact hp
theorem dk_e1 : (28 : Int32) - nI 1 = nI (28 - 1) := by decide +kernel
theorem dk_e2 : (28 : Int32) - nI 2 = nI (28 - 2) := by decide +kernel
theorem dk_y1 {post : Int32 → SY → Prop} {k : Int64} {r : Nat} (h : r < 16) (hs : nI r = 0 ∨ nI r = 1 ∨ nI r = 8 ∨ nI r = 15) (hp : post 1 (dk_yl k, nI (r + 1))) : wpY_step post (k, nI r) :=
  br_t (dk_t16 r h).2 (nm_r (nI_1 r) (dk_s1 hs (dk_w1 (br_f (by decide) hp))))
theorem dk_y2 {post : Int32 → SY → Prop} {k : Int64} {r : Nat} (h : r < 16) (hs : ¬ nI r = 0 ∧ ¬ nI r = 1 ∧ ¬ nI r = 8 ∧ ¬ nI r = 15) (hp : post 2 (dk_yl (dk_yl k), nI (r + 1))) : wpY_step post (k, nI r) :=
  br_t (dk_t16 r h).2 (nm_r (nI_1 r) (dk_s2 hs (dk_w1 (br_t rfl (dk_w1 hp)))))
theorem dk_y3 {post : Int32 → SY → Prop} {k : Int64} {r : Nat} (h : r < 16) (hs : nI r = 0 ∨ nI r = 1 ∨ nI r = 8 ∨ nI r = 15) (hp : post 1 (dk_yr k, nI r)) : wpY_back post (k, nI (r + 1)) :=
  br_t (dk_t0 r h).2 (nm_r (nI_pred r) (dk_s1 (by rw [nI_pred r]; exact hs) (dk_w2 (br_f (by decide) hp))))
theorem dk_y4 {post : Int32 → SY → Prop} {k : Int64} {r : Nat} (h : r < 16) (hs : ¬ nI r = 0 ∧ ¬ nI r = 1 ∧ ¬ nI r = 8 ∧ ¬ nI r = 15) (hp : post 2 (dk_yr (dk_yr k), nI r)) : wpY_back post (k, nI (r + 1)) :=
  br_t (dk_t0 r h).2 (nm_r (nI_pred r) (dk_s2 (by rw [nI_pred r]; exact hs) (dk_w2 (br_t rfl (dk_w2 hp)))))
/-! ===== what is owed ===== -/
/-- one round number up to 16, and the two halves against the key -/
def i_Rel (_ : Nat) (u : SX) (v : SY) : Prop := ∃ (c d : Int32) (key : Int64) (r : Nat), u = (c, d, nI r) ∧ v = (key, nI r) ∧ r ≤ 16 ∧ dk_R c d key
theorem i_up {k : Nat} {u : SX} {v : SY} (h : i_Rel k u v) : i_Rel (k + 3) u v := h
theorem i_vc0 : wpX_init (fun u => wpY_init (fun v => i_Rel 0 u v)) := ⟨0, 0, 0, 0, rfl, rfl, by decide, dk_R0⟩
theorem i_vc_load {k : Nat} {u : SX} {v : SY} (I : i_Rel k u v) (hk : k + 3 ≤ 1536) (v1 : Int32) (v2 : Int32) : wpX_load (fun r u' => wpY_load (fun r' v' => r' = r ∧ i_Rel (k + 3) u' v') v v1 v2) u v1 v2 := by
  obtain ⟨c, d, key, r, rfl, rfl, hr, R⟩ := I
  intro a ea b eb
  subst ea
  subst eb
  have G : ∀ y : Int64, y = (((v1 &&& 268435455).toInt64) <<< ((28 : Int32).toInt64 &&& 63)) ||| ((v2 &&& 268435455).toInt64) → i_Rel (k + 3) (v1 &&& 268435455, v2 &&& 268435455, 0) (y, 0) := by
    intro y ey
    subst ey
    exact ⟨_, _, _, 0, rfl, rfl, by decide, dk_Rload v1 v2⟩
  by_cases h : ((v1 ||| v2) &&& (-268435456)) = 0
  · exact br_t h (fun y ey => br_t h ⟨rfl, G y ey⟩)
  · exact br_f h (fun y ey => br_f h ⟨rfl, G y ey⟩)
theorem i_vc_step {k : Nat} {u : SX} {v : SY} (I : i_Rel k u v) (hk : k + 3 ≤ 1536) : wpX_step (fun r u' => wpY_step (fun r' v' => r' = r ∧ i_Rel (k + 3) u' v') v) u := by
  obtain ⟨c, d, key, r, rfl, rfl, hr, R⟩ := I
  by_cases h : r = 16
  · subst h
    exact br_t (by decide) (br_f (by decide) ⟨rfl, c, d, key, 16, rfl, rfl, hr, R⟩)
  · have h' : r < 16 := by omega
    rcases dk_tab r h' with ⟨hX, hY⟩ | ⟨hX, hY⟩
    · exact br_f (dk_t16 r h').1 (br_t hX (dk_x28 2 dk_e2 (dk_y2 h' hY ⟨rfl, _, _, _, r + 1, rfl, rfl, h', dk_Rl2 R⟩)))
    · exact br_f (dk_t16 r h').1 (br_f hX (dk_x28 1 dk_e1 (dk_y1 h' hY ⟨rfl, _, _, _, r + 1, rfl, rfl, h', dk_Rl R⟩)))
theorem i_vc_back {k : Nat} {u : SX} {v : SY} (I : i_Rel k u v) (hk : k + 3 ≤ 1536) : wpX_back (fun r u' => wpY_back (fun r' v' => r' = r ∧ i_Rel (k + 3) u' v') v) u := by
  obtain ⟨c, d, key, r, rfl, rfl, hr, R⟩ := I
  cases r with
  | zero => exact br_t (by decide) (br_f (by decide) ⟨rfl, c, d, key, 0, rfl, rfl, hr, R⟩)
  | succ r =>
    rcases dk_tab r hr with ⟨hX, hY⟩ | ⟨hX, hY⟩
    · exact br_f (dk_t0 r hr).1 (nm_r (nI_pred r) (br_t hX (dk_x36 2 dk_e2 (dk_y4 hr hY ⟨rfl, _, _, _, r, rfl, rfl, Nat.le_of_succ_le hr, dk_Rr2 R⟩))))
    · exact br_f (dk_t0 r hr).1 (nm_r (nI_pred r) (br_f hX (dk_x36 1 dk_e1 (dk_y3 hr hY ⟨rfl, _, _, _, r, rfl, rfl, Nat.le_of_succ_le hr, dk_Rr R⟩))))
theorem i_vc_pick {k : Nat} {u : SX} {v : SY} (I : i_Rel k u v) (hk : k + 3 ≤ 1536) (v1 : Int32) : wpX_pick (fun r => wpY_pick (fun r' => r' = r ∧ i_Rel (k + 3) u v) v v1) u v1 := by
  have I' : i_Rel (k + 3) u v := I
  obtain ⟨c, d, key, r, rfl, rfl, hr, R⟩ := I
  by_cases h0 : v1 < 0
  · exact br_t h0 (br_t h0 ⟨rfl, I'⟩)
  · by_cases h5 : v1 ≤ 55
    · obtain ⟨j, hj, rfl⟩ := nI_of2 (n := 55) (by decide) h0 h5
      by_cases g : 28 ≤ j
      · have e : nI j - 28 = nI (j - 28) := by
          have t : nI (j - 28) + 28 = nI j := by
            have z := nI_add (j - 28) 28
            rw [Nat.sub_add_cancel g] at z
            exact z
          rw [← t, Int32.add_sub_cancel]
        have hg : (28 : Int32) ≤ nI j := nI_le (a := 28) g (by omega)
        refine br_f h0 (br_t h5 (br_t hg (br_f h0 (br_t h5 ⟨?_, I'⟩))))
        rw [e]
        have z := dk_Rhigh R (j := j - 28) (by omega)
        rw [Nat.sub_add_cancel g] at z
        exact z
      · have hg : ¬ (28 : Int32) ≤ nI j := nI_ge (b := 28) (by omega) (by decide)
        exact br_f h0 (br_t h5 (br_f hg (br_f h0 (br_t h5 ⟨dk_Rlow R (by omega), I'⟩))))
    · exact br_f h0 (br_f h5 (br_f h0 (br_f h5 ⟨rfl, I'⟩)))
theorem i_vc_round {k : Nat} {u : SX} {v : SY} (I : i_Rel k u v) (hk : k + 3 ≤ 1536) : wpX_round (fun r => wpY_round (fun r' => r' = r ∧ i_Rel (k + 3) u v) v) u := by
  have I' : i_Rel (k + 3) u v := I
  obtain ⟨c, d, key, r, rfl, rfl, hr, R⟩ := I
  exact ⟨rfl, I'⟩
end
