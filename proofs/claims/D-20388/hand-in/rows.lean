section
/-! ===== lN n to 2^64: shifts, and, or, masks, one bit ===== -/
theorem wb_tb (n : Nat) : (lN n).toBitVec = BitVec.ofNat 64 n := rfl
theorem wb_inj {a b : Int64} (h : a.toBitVec = b.toBitVec) : a = b := Int64.toBitVec_inj.mp h
theorem wb_tn {n : Nat} (h : n < 2 ^ 64) : (lN n).toBitVec.toNat = n := by rw [wb_tb, BitVec.toNat_ofNat, Nat.mod_eq_of_lt h]
theorem wb_of (x : Int64) : ∃ n, n < 2 ^ 64 ∧ x = lN n := ⟨x.toBitVec.toNat, x.toBitVec.isLt, wb_inj (by rw [wb_tb]; simp)⟩
theorem wb_of32 (x : Int32) : ∃ n, n < 2 ^ 32 ∧ x = nI n := ⟨x.toBitVec.toNat, x.toBitVec.isLt, Int32.toBitVec_inj.mp (by show _ = BitVec.ofNat 32 _; simp)⟩
theorem wb_c : ∀ k, k < 64 → ((nI k).toInt64 &&& 63) = lN k := by decide +kernel
theorem wb_cu : ∀ k, k < 64 → ((nI k).toInt64.toUInt64 &&& Int64.toUInt64 63) = UInt64.ofNat k := by decide +kernel
theorem wb_sm : ∀ k, k < 64 → (BitVec.ofNat 64 k).smod 64 = BitVec.ofNat 64 k := by decide +kernel
theorem wb_pw {a b : Nat} (h : a ≤ b) : 2 ^ b = 2 ^ a * 2 ^ (b - a) := by rw [← Nat.pow_add]; congr 1; omega
theorem wb_lt2 {a b : Nat} (h : a < b) : 2 ^ a < 2 ^ b := Nat.pow_lt_pow_right (by decide) h
theorem wb_mod (n : Nat) : lN n = lN (n % 2 ^ 64) := wb_inj (by rw [wb_tb, wb_tb]; apply BitVec.eq_of_toNat_eq; rw [BitVec.toNat_ofNat, BitVec.toNat_ofNat, Nat.mod_mod])
theorem wb_shr {n k : Nat} (hn : n < 2 ^ 64) (hk : k < 64) : ((lN n).toUInt64 >>> ((nI k).toInt64.toUInt64 &&& Int64.toUInt64 63)).toInt64 = lN (n / 2 ^ k) := by
  rw [wb_cu k hk]
  apply wb_inj
  apply BitVec.eq_of_toNat_eq
  show ((lN n).toUInt64 >>> UInt64.ofNat k).toNat = (BitVec.ofNat 64 _).toNat
  have h1 : (UInt64.ofNat k).toNat = k := by
    show (BitVec.ofNat 64 k).toNat = k
    rw [BitVec.toNat_ofNat, Nat.mod_eq_of_lt (by omega)]
  have h2 : (lN n).toUInt64.toNat = n := wb_tn hn
  rw [UInt64.toNat_shiftRight, h1, h2, Nat.mod_eq_of_lt hk, Nat.shiftRight_eq_div_pow, BitVec.toNat_ofNat, Nat.mod_eq_of_lt (Nat.lt_of_le_of_lt (Nat.div_le_self _ _) hn)]
theorem wb_shl (n : Nat) {k : Nat} (hk : k < 64) : lN n <<< ((nI k).toInt64 &&& 63) = lN (n * 2 ^ k) := by
  rw [wb_c k hk]
  apply wb_inj
  rw [Int64.toBitVec_shiftLeft, wb_tb, wb_tb, wb_tb, wb_sm k hk]
  apply BitVec.eq_of_toNat_eq
  rw [BitVec.shiftLeft_eq', BitVec.toNat_shiftLeft, BitVec.toNat_ofNat, BitVec.toNat_ofNat, BitVec.toNat_ofNat, Nat.mod_eq_of_lt (show k < 2 ^ 64 by omega), Nat.shiftLeft_eq, Nat.mul_mod, Nat.mod_mod, ← Nat.mul_mod]
theorem wb_and {a b : Nat} (ha : a < 2 ^ 64) (hb : b < 2 ^ 64) : lN a &&& lN b = lN (a &&& b) := by
  apply wb_inj
  rw [Int64.toBitVec_and, wb_tb, wb_tb, wb_tb]
  apply BitVec.eq_of_toNat_eq
  rw [BitVec.toNat_and, BitVec.toNat_ofNat, BitVec.toNat_ofNat, BitVec.toNat_ofNat, Nat.mod_eq_of_lt ha, Nat.mod_eq_of_lt hb, Nat.mod_eq_of_lt (Nat.and_lt_two_pow _ hb)]
theorem wb_or {a b : Nat} (ha : a < 2 ^ 64) (hb : b < 2 ^ 64) : lN a ||| lN b = lN (a ||| b) := by
  apply wb_inj
  rw [Int64.toBitVec_or, wb_tb, wb_tb, wb_tb]
  apply BitVec.eq_of_toNat_eq
  rw [BitVec.toNat_or, BitVec.toNat_ofNat, BitVec.toNat_ofNat, BitVec.toNat_ofNat, Nat.mod_eq_of_lt ha, Nat.mod_eq_of_lt hb, Nat.mod_eq_of_lt (Nat.or_lt_two_pow ha hb)]
theorem wb_mask {n k : Nat} (hn : n < 2 ^ 64) (hk : k < 64) : lN n &&& lN (2 ^ k - 1) = lN (n % 2 ^ k) := by
  rw [wb_and hn (by have := wb_lt2 hk; omega), Nat.and_two_pow_sub_one_eq_mod]
theorem wb_a1 {n : Nat} (hn : n < 2 ^ 64) : lN n &&& 1 = lN (n % 2) := wb_mask (k := 1) hn (by decide)
theorem wb_bit {n k : Nat} (hn : n < 2 ^ 64) (hk : k < 64) : ((lN n).toUInt64 >>> ((nI k).toInt64.toUInt64 &&& Int64.toUInt64 63)).toInt64 &&& 1 = lN (n / 2 ^ k % 2) := by
  rw [wb_shr hn hk, wb_a1 (Nat.lt_of_le_of_lt (Nat.div_le_self _ _) hn)]
/-! ===== the top bit of a natural number ===== -/
/-- the highest one bit of n; 0 of 0 -/
def hb_t (n : Nat) : Nat := if n = 0 then 0 else 2 ^ Nat.log2 n
theorem hb_ex {n : Nat} (h : n ≠ 0) : ∃ k, 2 ^ k ≤ n ∧ n < 2 ^ (k + 1) := ⟨n.log2, Nat.log2_self_le h, Nat.lt_log2_self⟩
theorem hb_tk {n k : Nat} (h1 : 2 ^ k ≤ n) (h2 : n < 2 ^ (k + 1)) : hb_t n = 2 ^ k := by
  have hp := Nat.two_pow_pos k
  have h0 : n ≠ 0 := by omega
  unfold hb_t
  rw [if_neg h0, (Nat.log2_eq_iff h0).mpr ⟨h1, h2⟩]
/-- the exponent is below s where n is below 2^s -/
theorem hb_lt {n k s : Nat} (h1 : 2 ^ k ≤ n) (hn : n < 2 ^ s) : k < s := by
  rcases Nat.lt_or_ge k s with z | z
  · exact z
  · have := Nat.pow_le_pow_right (show 0 < 2 by decide) z
    omega
/-- and at least s where n is at least 2^s -/
theorem hb_ge {n k s : Nat} (hn : 2 ^ s ≤ n) (h2 : n < 2 ^ (k + 1)) : s ≤ k := by
  rcases Nat.lt_or_ge k s with z | z
  · have := Nat.pow_le_pow_right (show 0 < 2 by decide) (show k + 1 ≤ s from z)
    omega
  · exact z
theorem hb_d1 {n k s : Nat} (hs : s ≤ k) (h1 : 2 ^ k ≤ n) : 2 ^ (k - s) ≤ n / 2 ^ s := by
  rw [Nat.le_div_iff_mul_le (Nat.two_pow_pos s), ← Nat.pow_add, Nat.sub_add_cancel hs]
  exact h1
theorem hb_d2 {n k s : Nat} (hs : s ≤ k) (h2 : n < 2 ^ (k + 1)) : n / 2 ^ s < 2 ^ (k - s + 1) := by
  rw [Nat.div_lt_iff_lt_mul (Nat.two_pow_pos s), ← Nat.pow_add, show k - s + 1 + s = k + 1 by omega]
  exact h2
/-- a number under its own top bit -/
theorem hb_and {n k : Nat} (h1 : 2 ^ k ≤ n) (h2 : n < 2 ^ (k + 1)) : n &&& 2 ^ k = 2 ^ k := by
  have a := hb_d1 (Nat.le_refl k) h1
  have b := hb_d2 (Nat.le_refl k) h2
  rw [Nat.sub_self] at a b
  have e : n / 2 ^ k = 1 := by omega
  have t : n.testBit k = true := by rw [Nat.testBit_eq_decide_div_mod_eq, e]; rfl
  apply Nat.eq_of_testBit_eq
  intro i
  rw [Nat.testBit_and, Nat.testBit_two_pow]
  by_cases h : k = i
  · subst h
    rw [t, Bool.true_and]
  · rw [decide_eq_false h, Bool.and_false]
theorem hb_t32 {n : Nat} (hn : n < 2 ^ 32) : hb_t n ≤ 2 ^ 31 := by
  by_cases h : n = 0
  · rw [h]; decide
  · obtain ⟨k, h1, h2⟩ := hb_ex h
    rw [hb_tk h1 h2]
    have hk : k ≤ 31 := Nat.le_of_lt_succ (hb_lt h1 hn)
    exact Nat.pow_le_pow_right (by decide) hk
theorem hb_s1 {N i : Nat} (h : N / 2 ^ i % 2 = 1) : hb_t (N % 2 ^ (i + 1)) = 2 ^ i := by
  have e : N % 2 ^ (i + 1) = N % 2 ^ i + 2 ^ i := by rw [Nat.mod_pow_succ, h, Nat.mul_one]
  have r := Nat.mod_lt N (Nat.two_pow_pos i)
  rw [e]
  exact hb_tk (by omega) (by rw [Nat.pow_succ]; omega)
theorem hb_s0 {N i : Nat} (h : ¬ N / 2 ^ i % 2 = 1) : N % 2 ^ (i + 1) = N % 2 ^ i := by
  have z : N / 2 ^ i % 2 = 0 := by omega
  rw [Nat.mod_pow_succ, z, Nat.mul_zero, Nat.add_zero]
/-! ===== ints and longs ===== -/
theorem hb_mod (n : Nat) : nI n = nI (n % 2 ^ 32) := Int32.toBitVec_inj.mp (BitVec.eq_of_toNat_eq (by
  show (BitVec.ofNat 32 n).toNat = (BitVec.ofNat 32 (n % 2 ^ 32)).toNat
  rw [BitVec.toNat_ofNat, BitVec.toNat_ofNat, Nat.mod_mod]))
theorem hb_iand {a b : Nat} (ha : a < 2 ^ 32) (hb : b < 2 ^ 32) : nI a &&& nI b = nI (a &&& b) := Int32.toBitVec_inj.mp (BitVec.eq_of_toNat_eq (by
  rw [Int32.toBitVec_and, BitVec.toNat_and, pk_tn ha, pk_tn hb, pk_tn (Nat.and_lt_two_pow _ hb)]))
theorem hb_ne0 {n : Nat} (h0 : n ≠ 0) (hn : n < 2 ^ 32) : ¬ nI n = 0 := by
  intro z
  have e : (nI n).toBitVec.toNat = 0 := by rw [z]; rfl
  rw [pk_tn hn] at e
  exact h0 e
theorem hb_m32 : ∀ k, k < 32 → ((-2147483648 : Int32).toUInt32 >>> ((nI (31 - k)).toUInt32 &&& Int32.toUInt32 31)).toInt32 = nI (2 ^ k) := by decide +kernel
theorem hb_m64 : ∀ k, k < 64 → ((-9223372036854775808 : Int64).toUInt64 >>> ((nI (63 - k)).toInt64.toUInt64 &&& Int64.toUInt64 63)).toInt64 = lN (2 ^ k) := by decide +kernel
theorem hb_one : ∀ k, k < 64 → (1 : Int64) <<< ((nI k).toInt64 &&& 63) = lN (2 ^ k) := by decide +kernel
theorem hb_lo {t : Nat} (ht : t ≤ 2 ^ 31) : (lN t = 2147483648 → (nI t).toInt64 = -2147483648) ∧ (¬ lN t = 2147483648 → (nI t).toInt64 = lN t) := by
  by_cases h : t = 2 ^ 31
  · subst h
    exact ⟨fun _ => by decide +kernel, fun z => absurd (show lN (2 ^ 31) = 2147483648 by decide +kernel) z⟩
  · have hl : t < 2 ^ 31 := by omega
    refine ⟨fun z => ?_, fun _ => nI_l hl⟩
    have z' : lN t = lN 2147483648 := z
    rw [pk_lEQ (by omega) (by omega)] at z'
    omega
/-- bit i of a long by the signed shift -/
theorem hb_bit {n i : Nat} (hi : i < 64) : ((lN n >>> ((nI i).toInt64 &&& 63)) &&& 1) = 1 ↔ n / 2 ^ i % 2 = 1 := by
  have e : (lN n >>> ((nI i).toInt64 &&& 63)).toBitVec = (BitVec.ofNat 64 n).sshiftRight i := by
    rw [wb_c i hi, Int64.toBitVec_shiftRight, wb_tb, wb_tb, wb_sm i hi]
    show (BitVec.ofNat 64 n).sshiftRight (BitVec.ofNat 64 i).toNat = _
    rw [BitVec.toNat_ofNat, Nat.mod_eq_of_lt (by omega)]
  have g : ((BitVec.ofNat 64 n).sshiftRight i).getLsbD 0 = decide (n / 2 ^ i % 2 = 1) := by
    rw [BitVec.getLsbD_sshiftRight, BitVec.getLsbD_ofNat, Nat.add_zero, if_pos hi, Nat.testBit_eq_decide_div_mod_eq]
    simp [hi]
  rw [← Int64.toBitVec_inj, Int64.toBitVec_and, e]
  show (BitVec.ofNat 64 n).sshiftRight i &&& 1#64 = 1#64 ↔ _
  rw [BitVec.and_one_eq_setWidth_ofBool_getLsbD, g]
  by_cases h : n / 2 ^ i % 2 = 1
  · rw [decide_eq_true h]
    exact ⟨fun _ => h, fun _ => by decide⟩
  · rw [decide_eq_false h]
    exact ⟨fun z => absurd z (by decide), fun z => absurd z h⟩
end
section
/-! ===== Integer.numberOfLeadingZeros: 2^k ≤ n < 2^(k+1): 31 - k ===== -/
theorem hb_qf : ∀ k : Fin 4, ∀ n : Fin 16, 2 ^ k.val ≤ n.val → n.val < 2 ^ (k.val + 1) → (n.val < 4 → n.val / 2 ^ 1 = k.val) ∧ (4 ≤ n.val → n.val / 2 ^ 2 / 2 ^ 1 + 2 = k.val) := by decide +kernel
theorem hb_q (k : Nat) (hk : k < 4) (n : Nat) (hn : n < 16) (h1 : 2 ^ k ≤ n) (h2 : n < 2 ^ (k + 1)) : (n < 4 → n / 2 ^ 1 = k) ∧ (4 ≤ n → n / 2 ^ 2 / 2 ^ 1 + 2 = k) := hb_qf ⟨k, hk⟩ ⟨n, hn⟩ h1 h2
theorem hb_a2 {m : Nat} (h : 2 ≤ m) : nI m + (-2) = nI (m - 2) := (Int32.sub_eq_add_neg (nI m) 2).symm.trans (pk_sub h)
theorem hb_a4 {m : Nat} (h : 4 ≤ m) : nI m + (-4) = nI (m - 4) := (Int32.sub_eq_add_neg (nI m) 4).symm.trans (pk_sub h)
theorem hb_a8 {m : Nat} (h : 8 ≤ m) : nI m + (-8) = nI (m - 8) := (Int32.sub_eq_add_neg (nI m) 8).symm.trans (pk_sub h)
theorem hb_61 {post : Int32 → Prop} {n m k : Nat} (hn : n < 16) (hk : k ≤ m) (h1 : 2 ^ k ≤ n) (h2 : n < 2 ^ (k + 1)) (hp : post (nI (m - k))) : wJ6_numberOfLeadingZeros_0f7a4_565d2_61 post (nI n) (nI m) := by
  have q := hb_q k (hb_lt (s := 4) h1 hn) n hn h1 h2
  unfold wJ6_numberOfLeadingZeros_0f7a4_565d2_61
  refine pk_lt n 4 (fun z => ?_) (fun z => ?_)
  · have e := q.1 z
    rw [pk_ushrN (by omega) 1 1 (by decide), e, pk_sub hk]
    exact hp
  · have e := q.2 z
    refine nm_r (hb_a2 (by omega)) (nm_r (pk_ushrN (by omega) 2 2 (by decide)) ?_)
    rw [pk_ushrN (by omega) 1 1 (by decide), pk_sub (by omega), show m - 2 - n / 2 ^ 2 / 2 ^ 1 = m - k by omega]
    exact hp
theorem hb_48 {post : Int32 → Prop} {n m k : Nat} (hn : n < 256) (hk : k ≤ m) (h1 : 2 ^ k ≤ n) (h2 : n < 2 ^ (k + 1)) (hp : post (nI (m - k))) : wJ6_numberOfLeadingZeros_0f7a4_565d2_48 post (nI n) (nI m) := by
  unfold wJ6_numberOfLeadingZeros_0f7a4_565d2_48
  refine pk_lt n 16 (fun z => hb_61 z hk h1 h2 hp) (fun z => ?_)
  have ks : 4 ≤ k := hb_ge (s := 4) z h2
  exact nm_r (hb_a4 (by omega)) (nm_r (pk_ushrN (by omega) 4 4 (by decide)) (hb_61 (by omega) (by omega) (hb_d1 ks h1) (hb_d2 ks h2) (by rw [show m - 4 - (k - 4) = m - k by omega]; exact hp)))
theorem hb_33 {post : Int32 → Prop} {n m k : Nat} (hn : n < 65536) (hk : k ≤ m) (h1 : 2 ^ k ≤ n) (h2 : n < 2 ^ (k + 1)) (hp : post (nI (m - k))) : wJ6_numberOfLeadingZeros_0f7a4_565d2_33 post (nI n) (nI m) := by
  unfold wJ6_numberOfLeadingZeros_0f7a4_565d2_33
  refine pk_lt n 256 (fun z => hb_48 z hk h1 h2 hp) (fun z => ?_)
  have ks : 8 ≤ k := hb_ge (s := 8) z h2
  exact nm_r (hb_a8 (by omega)) (nm_r (pk_ushrN (by omega) 8 8 (by decide)) (hb_48 (by omega) (by omega) (hb_d1 ks h1) (hb_d2 ks h2) (by rw [show m - 8 - (k - 8) = m - k by omega]; exact hp)))
theorem hb_neg {n : Nat} (h : 2 ^ 31 ≤ n) (hn : n < 2 ^ 32) : ¬ 0 < nI n := by
  have c := BitVec.toInt_eq_toNat_cond (nI n).toBitVec
  rw [pk_tn hn] at c
  have c' : (nI n).toInt = if 2 * n < 2 ^ 32 then (n : Int) else (n : Int) - 2 ^ 32 := c
  rw [if_neg (by omega)] at c'
  rw [Int32.lt_iff_toInt_lt, c', show (0 : Int32).toInt = 0 by decide]
  omega
theorem hb_n32 {post : Int32 → Prop} {n k : Nat} (hk : k < 32) (h1 : 2 ^ k ≤ n) (h2 : n < 2 ^ (k + 1)) (hp : post (nI (31 - k))) : wpJ6_numberOfLeadingZeros_0f7a4_565d2 post () (nI n) := by
  have hn : n < 2 ^ 32 := Nat.lt_of_lt_of_le h2 (Nat.pow_le_pow_right (by decide) hk)
  have p0 := Nat.two_pow_pos k
  unfold wpJ6_numberOfLeadingZeros_0f7a4_565d2
  rcases Nat.lt_or_ge n (2 ^ 31) with w | w
  · refine pk_lt 0 n (fun _ => ?_) (fun z => absurd z (by omega))
    refine pk_lt n 65536 (fun z => hb_33 (m := 31) z (by omega) h1 h2 hp) (fun z => ?_)
    have ks : 16 ≤ k := hb_ge (s := 16) z h2
    exact nm_r (show (31 : Int32) + (-16) = nI 15 by decide) (nm_r (pk_ushrN (by omega) 16 16 (by decide)) (hb_33 (by omega) (by omega) (hb_d1 ks h1) (hb_d2 ks h2) (by rw [show 15 - (k - 16) = 31 - k by omega]; exact hp)))
  · have ks : 31 ≤ k := hb_ge w h2
    refine br_f (hb_neg w hn) (br_f (hb_ne0 (by omega) hn) ?_)
    rw [show 31 - k = 0 by omega] at hp
    exact hp
theorem hb_n32z {post : Int32 → Prop} (hp : post 32) : wpJ6_numberOfLeadingZeros_0f7a4_565d2 post () (nI 0) :=
  br_f (by decide) (br_t (by decide) hp)
/-! ===== Long.numberOfLeadingZeros: 63 - k ===== -/
theorem hb_n64 {post : Int32 → Prop} {n k : Nat} (hk : k < 64) (h1 : 2 ^ k ≤ n) (h2 : n < 2 ^ (k + 1)) (hp : post (nI (63 - k))) : wpJ13_numberOfLeadingZeros_95d88_565d2 post () (lN n) := by
  have hn : n < 2 ^ 64 := Nat.lt_of_lt_of_le h2 (Nat.pow_le_pow_right (by decide) hk)
  have e : (((lN n).toUInt64 >>> ((32 : Int32).toInt64.toUInt64 &&& Int64.toUInt64 63)).toInt64).toInt32 = nI (n / 2 ^ 32) := by
    have w := wb_shr (k := 32) hn (by decide)
    exact (congrArg Int64.toInt32 w).trans (lN_i _)
  unfold wpJ13_numberOfLeadingZeros_95d88_565d2
  refine nm_r e ?_
  rcases Nat.lt_or_ge k 32 with z | z
  · have hz : n < 2 ^ 32 := Nat.lt_of_lt_of_le h2 (Nat.pow_le_pow_right (by decide) z)
    refine br_t (by rw [Nat.div_eq_of_lt hz]; rfl) ?_
    rw [lN_i]
    refine hb_n32 z h1 h2 ?_
    have s : (32 : Int32) + nI (31 - k) = nI (63 - k) := by
      have a := nI_add 32 (31 - k)
      rw [show 32 + (31 - k) = 63 - k by omega] at a
      exact a
    rw [s]
    exact hp
  · have d1 := hb_d1 z h1
    have d2 := hb_d2 z h2
    have p0 := Nat.two_pow_pos (k - 32)
    refine br_f (hb_ne0 (by omega) (by omega)) (hb_n32 (by omega) d1 d2 ?_)
    rw [show 31 - (k - 32) = 63 - k by omega]
    exact hp
theorem hb_n64z {post : Int32 → Prop} (hp : post (32 + 32)) : wpJ13_numberOfLeadingZeros_95d88_565d2 post () (lN 0) := by
  unfold wpJ13_numberOfLeadingZeros_95d88_565d2
  refine nm_r (e' := nI 0) (by decide) (br_t (by decide) ?_)
  rw [lN_i]
  exact hb_n32z hp
/-! ===== highestOneBit ===== -/
theorem hb_h32 {post : Int32 → Prop} {n : Nat} (hn : n < 2 ^ 32) (hp : post (nI (hb_t n))) : wpJ6_highestOneBit_0f7a4_565d2 post () (nI n) := by
  unfold wpJ6_highestOneBit_0f7a4_565d2
  by_cases h : n = 0
  · subst h
    refine hb_n32z ?_
    rw [nI_0, Int32.zero_and]
    exact hp
  · obtain ⟨k, h1, h2⟩ := hb_ex h
    have hk := hb_lt h1 hn
    refine hb_n32 hk h1 h2 ?_
    rw [hb_m32 k hk, hb_iand hn (Nat.lt_of_le_of_lt h1 hn), hb_and h1 h2, ← hb_tk h1 h2]
    exact hp
theorem hb_h64 {post : Int64 → Prop} {n : Nat} (hn : n < 2 ^ 64) (hp : post (lN (hb_t n))) : wpJ13_highestOneBit_067f4_565d2 post () (lN n) := by
  unfold wpJ13_highestOneBit_067f4_565d2
  by_cases h : n = 0
  · subst h
    refine hb_n64z ?_
    rw [show lN 0 = 0 from rfl, Int64.zero_and]
    exact hp
  · obtain ⟨k, h1, h2⟩ := hb_ex h
    have hk := hb_lt h1 hn
    refine hb_n64 hk h1 h2 ?_
    rw [hb_m64 k hk, wb_and hn (Nat.lt_of_le_of_lt h1 hn), hb_and h1 h2, ← hb_tk h1 h2]
    exact hp
end
section
/-! ===== the class's topBits, its twin's, the law ===== -/
/-- what both answer, of the two top bits -/
theorem hb_v {post : Int64 → Prop} {a b : Int64} (hp : post (if a = b then a else a - b)) : (a = b → post a) ∧ (¬ a = b → post (a - b)) :=
  br_c (fun h => by rw [if_pos h] at hp; exact hp) (fun h => by rw [if_neg h] at hp; exact hp)
/-- the answer -/
def hb_A (n : Nat) : Int64 := if lN (hb_t n) = (nI (hb_t (n % 2 ^ 32))).toInt64 then lN (hb_t n) else lN (hb_t n) - (nI (hb_t (n % 2 ^ 32))).toInt64
theorem hb_x0 {post : Int64 → Prop} {n : Nat} (hn : n < 2 ^ 64) (hp : post (hb_A n)) : wpX0_topBits post () (lN n) := by
  unfold wpX0_topBits
  refine hb_h64 hn ?_
  rw [lN_i, hb_mod n]
  exact hb_h32 (Nat.mod_lt _ (by decide)) (hb_v hp)
theorem hb_x1 {post : Int64 → Prop} {n : Nat} (hn : n < 2 ^ 64) (hp : post (hb_A n)) : wpX1_topBits post () (lN n) := by
  have L : ∃ f, wX1_topBits_8 post (lN n) f (lN (hb_t (n % 2 ^ 0))) (lN (hb_t (n % 2 ^ (min 0 32)))) (nI 0) := by
    refine pk_loop (σ := Unit) (fun f i _ => wX1_topBits_8 post (lN n) f (lN (hb_t (n % 2 ^ i))) (lN (hb_t (n % 2 ^ (min i 32)))) (nI i)) (fun _ _ => True) 64 0 () (by omega) trivial ?_ ?_
    · intro f _ _
      show wX1_topBits_8 post (lN n) (f + 1) (lN (hb_t (n % 2 ^ 64))) (lN (hb_t (n % 2 ^ 32))) (nI 64)
      rw [Nat.mod_eq_of_lt hn]
      have lo := hb_lo (hb_t32 (Nat.mod_lt n (show 0 < 2 ^ 32 by decide)))
      have H : wX1_topBits_64 post (lN (hb_t n)) (nI (hb_t (n % 2 ^ 32))).toInt64 := hb_v hp
      refine pk_le 64 64 (fun _ => br_c (fun z => ?_) (fun z => ?_)) (fun z => absurd z (by omega))
      · rw [lo.1 z] at H
        exact H
      · rw [lo.2 z] at H
        exact H
    · intro f i _ hi _ hw
      have hw' : wX1_topBits_8 post (lN n) f (lN (hb_t (n % 2 ^ (i + 1)))) (lN (hb_t (n % 2 ^ (min (i + 1) 32)))) (nI (i + 1)) := hw () trivial
      show wX1_topBits_8 post (lN n) (f + 1) (lN (hb_t (n % 2 ^ i))) (lN (hb_t (n % 2 ^ (min i 32)))) (nI i)
      refine pk_le 64 i (fun z => absurd z (by omega)) (fun _ => ek_if (hb_bit hi) (fun b => nm_r (hb_one i hi) ?_) (fun b => nm_r (nI_1 i) ?_))
      · rw [hb_s1 b] at hw'
        refine pk_le 32 i (fun z => nm_r (nI_1 i) ?_) (fun z => nm_r (hb_one i hi) (nm_r (nI_1 i) ?_))
        · rw [show min (i + 1) 32 = min i 32 by omega] at hw'
          exact hw'
        · rw [show min (i + 1) 32 = i + 1 by omega, hb_s1 b] at hw'
          exact hw'
      · rw [hb_s0 b] at hw'
        rcases Nat.lt_or_ge i 32 with z | z
        · rw [show min (i + 1) 32 = i + 1 by omega, hb_s0 b] at hw'
          rw [show min i 32 = i by omega]
          exact hw'
        · rw [show min (i + 1) 32 = min i 32 by omega] at hw'
          exact hw'
  rw [Nat.zero_min, show n % 2 ^ 0 = 0 by omega, nI_0] at L
  exact L
theorem hb_law (p0 : Int64) (p1 : Int32) : wpL_lawOf (fun r => r = 1) () p0 p1 := by
  unfold wpL_lawOf
  intro x _
  obtain ⟨n, hn, rfl⟩ := wb_of x
  exact hb_x0 hn (hb_x1 hn (br_t rfl rfl))
theorem hb_cell {post : Int32 → Prop} {L : Nat} {xs : Nat → Int32} (j : Nat) {p1 : Int32} (hL : L ≤ 3) (hp : ∀ v, post v) (hj : p1 = nI j := by rfl) (hb : j < 2 ^ 31 := by omega) : wpL_cellAt post L xs () p1 := by
  unfold wpL_cellAt
  exact pk_le L j (fun _ => hp _) (fun z => ⟨pk_in j L z hj, hp _⟩) rfl hj
/-! ===== WHAT IS OWED for BitMembersLaw: one statement: the law answers true on every script of L ints xs ===== -/
theorem i_vc (xs : Nat → Int32) (L : Nat) (hL : L ≤ 3) : wpL_law (fun r => r = 1) L xs := by
  unfold wpL_law
  exact hb_cell 0 hL (fun _ => hb_cell 1 hL (fun _ => hb_cell 2 hL (fun _ => hb_law _ _)))
end
