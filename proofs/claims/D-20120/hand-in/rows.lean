section
/-! rows pasted from kit/laws/BITS.to-paste (a starting text): nx_and, nx_xor; wb_tb .. wb_and -/
theorem nx_and (a b : Nat) : nI a &&& nI b = nI (a &&& b) := by
  apply Int32.toBitVec_inj.1
  show BitVec.ofNat 32 a &&& BitVec.ofNat 32 b = BitVec.ofNat 32 (a &&& b)
  apply BitVec.eq_of_getLsbD_eq
  intro i hi
  simp [hi]
theorem nx_xor (a b : Nat) : nI a ^^^ nI b = nI (a ^^^ b) := by
  apply Int32.toBitVec_inj.1
  show BitVec.ofNat 32 a ^^^ BitVec.ofNat 32 b = BitVec.ofNat 32 (a ^^^ b)
  apply BitVec.eq_of_getLsbD_eq
  intro i hi
  simp [hi]
theorem wb_tb (n : Nat) : (lN n).toBitVec = BitVec.ofNat 64 n := rfl
theorem wb_inj {a b : Int64} (h : a.toBitVec = b.toBitVec) : a = b := Int64.toBitVec_inj.mp h
theorem wb_tn {n : Nat} (h : n < 2 ^ 64) : (lN n).toBitVec.toNat = n := by rw [wb_tb, BitVec.toNat_ofNat, Nat.mod_eq_of_lt h]
theorem wb_of (x : Int64) : ∃ n, n < 2 ^ 64 ∧ x = lN n := ⟨x.toBitVec.toNat, x.toBitVec.isLt, wb_inj (by rw [wb_tb]; simp)⟩
theorem wb_of32 (x : Int32) : ∃ n, n < 2 ^ 32 ∧ x = nI n := ⟨x.toBitVec.toNat, x.toBitVec.isLt, Int32.toBitVec_inj.mp (by show _ = BitVec.ofNat 32 _; simp)⟩
theorem wb_c : ∀ k, k < 64 → ((nI k).toInt64 &&& 63) = lN k := by decide +kernel
theorem wb_cu : ∀ k, k < 64 → ((nI k).toInt64.toUInt64 &&& Int64.toUInt64 63) = UInt64.ofNat k := by decide +kernel
theorem wb_sm : ∀ k, k < 64 → (BitVec.ofNat 64 k).smod 64 = BitVec.ofNat 64 k := by decide +kernel
theorem wb_pw {a b : Nat} (h : a ≤ b) : 2 ^ b = 2 ^ a * 2 ^ (b - a) := by rw [← Nat.pow_add]; congr 1; omega
theorem wb_lt2 {a b : Nat} (h : a < b) : 2 ^ a < 2 ^ b := Nat.pow_lt_pow_right (by decide) h
theorem wb_mod (n : Nat) : lN n = lN (n % 2 ^ 64) := wb_inj (by rw [wb_tb, wb_tb]; apply BitVec.eq_of_toNat_eq; rw [BitVec.toNat_ofNat, BitVec.toNat_ofNat, Nat.mod_mod])
theorem wb_shr {n k : Nat} (hn : n < 2 ^ 64) (hk : k < 64) : ((lN n).toUInt64 >>> ((nI k).toInt64.toUInt64 &&& Int64.toUInt64 63)).toInt64 = lN (n / 2 ^ k) := by
  rw [wb_cu k hk]
  apply wb_inj
  apply BitVec.eq_of_toNat_eq
  show ((lN n).toUInt64 >>> UInt64.ofNat k).toNat = (BitVec.ofNat 64 _).toNat
  have h1 : (UInt64.ofNat k).toNat = k := by
    show (BitVec.ofNat 64 k).toNat = k
    rw [BitVec.toNat_ofNat, Nat.mod_eq_of_lt (by omega)]
  have h2 : (lN n).toUInt64.toNat = n := wb_tn hn
  rw [UInt64.toNat_shiftRight, h1, h2, Nat.mod_eq_of_lt hk, Nat.shiftRight_eq_div_pow, BitVec.toNat_ofNat, Nat.mod_eq_of_lt (Nat.lt_of_le_of_lt (Nat.div_le_self _ _) hn)]
theorem wb_shl (n : Nat) {k : Nat} (hk : k < 64) : lN n <<< ((nI k).toInt64 &&& 63) = lN (n * 2 ^ k) := by
  rw [wb_c k hk]
  apply wb_inj
  rw [Int64.toBitVec_shiftLeft, wb_tb, wb_tb, wb_tb, wb_sm k hk]
  apply BitVec.eq_of_toNat_eq
  rw [BitVec.shiftLeft_eq', BitVec.toNat_shiftLeft, BitVec.toNat_ofNat, BitVec.toNat_ofNat, BitVec.toNat_ofNat, Nat.mod_eq_of_lt (show k < 2 ^ 64 by omega), Nat.shiftLeft_eq, Nat.mul_mod, Nat.mod_mod, ← Nat.mul_mod]
theorem wb_and {a b : Nat} (ha : a < 2 ^ 64) (hb : b < 2 ^ 64) : lN a &&& lN b = lN (a &&& b) := by
  apply wb_inj
  rw [Int64.toBitVec_and, wb_tb, wb_tb, wb_tb]
  apply BitVec.eq_of_toNat_eq
  rw [BitVec.toNat_and, BitVec.toNat_ofNat, BitVec.toNat_ofNat, BitVec.toNat_ofNat, Nat.mod_eq_of_lt ha, Nat.mod_eq_of_lt hb, Nat.mod_eq_of_lt (Nat.and_lt_two_pow _ hb)]
end
section
/-! the plain law: the bits of a natural, how many are set below a place, the k-th set place -/
theorem lf_odd : ∀ n : Nat, 0 < n → ∃ t q : Nat, n = 2 ^ t * (2 * q + 1) := by
  intro n
  induction n using Nat.strongRecOn with
  | ind n ih =>
    intro h
    rcases Nat.mod_two_eq_zero_or_one n with e | e
    · obtain ⟨t, q, hq⟩ := ih (n / 2) (by omega) (by omega)
      refine ⟨t + 1, q, ?_⟩
      rw [Nat.pow_succ, Nat.mul_assoc, Nat.mul_left_comm, ← hq]
      omega
    · exact ⟨0, n / 2, by rw [Nat.pow_zero, Nat.one_mul]; omega⟩
theorem lf_o0 (q : Nat) : (2 * q + 1).testBit 0 = true := by
  rw [Nat.testBit_zero]
  exact decide_eq_true (by omega)
theorem lf_os (q k : Nat) : (2 * q + 1).testBit (k + 1) = q.testBit k := by
  rw [Nat.testBit_succ]
  congr 1
  omega
theorem lf_e0 (q : Nat) : (2 * q).testBit 0 = false := by
  rw [Nat.testBit_zero]
  exact decide_eq_false (by omega)
theorem lf_es (q k : Nat) : (2 * q).testBit (k + 1) = q.testBit k := by
  rw [Nat.testBit_succ]
  congr 1
  omega
/-- the bits of a number whose lowest set place is t, and those of its predecessor -/
theorem lf_lo {t q j : Nat} (h : j < t) : (2 ^ t * (2 * q + 1)).testBit j = false := by
  rw [Nat.testBit_two_pow_mul, decide_eq_false (by omega), Bool.false_and]
theorem lf_at0 (t q : Nat) : (2 ^ t * (2 * q + 1)).testBit t = true := by
  rw [Nat.testBit_two_pow_mul, decide_eq_true (Nat.le_refl t), Nat.sub_self, lf_o0, Bool.true_and]
theorem lf_hi {t q j : Nat} (h : t < j) : (2 ^ t * (2 * q + 1)).testBit j = q.testBit (j - t - 1) := by
  rw [Nat.testBit_two_pow_mul, decide_eq_true (show j ≥ t by omega), Bool.true_and]
  obtain ⟨d, rfl⟩ : ∃ d, j = t + (d + 1) := ⟨j - t - 1, by omega⟩
  rw [Nat.add_sub_cancel_left, lf_os, Nat.add_sub_cancel]
theorem lf_pe (t q : Nat) : 2 ^ t * (2 * q + 1) - 1 = 2 ^ t * (2 * q) + (2 ^ t - 1) := by
  have h : 0 < 2 ^ t := Nat.two_pow_pos t
  rw [Nat.mul_add, Nat.mul_one]
  omega
theorem lf_plt (t : Nat) : 2 ^ t - 1 < 2 ^ t := by
  have h : 0 < 2 ^ t := Nat.two_pow_pos t
  omega
theorem lf_plo {t q j : Nat} (h : j < t) : (2 ^ t * (2 * q + 1) - 1).testBit j = true := by
  rw [lf_pe, Nat.testBit_two_pow_mul_add _ (lf_plt t), if_pos h, Nat.testBit_two_pow_sub_one]
  exact decide_eq_true h
theorem lf_pat (t q : Nat) : (2 ^ t * (2 * q + 1) - 1).testBit t = false := by
  rw [lf_pe, Nat.testBit_two_pow_mul_add _ (lf_plt t), if_neg (Nat.lt_irrefl t), Nat.sub_self, lf_e0]
theorem lf_phi {t q j : Nat} (h : t < j) : (2 ^ t * (2 * q + 1) - 1).testBit j = q.testBit (j - t - 1) := by
  rw [lf_pe, Nat.testBit_two_pow_mul_add _ (lf_plt t), if_neg (by omega)]
  obtain ⟨d, rfl⟩ : ∃ d, j = t + (d + 1) := ⟨j - t - 1, by omega⟩
  rw [Nat.add_sub_cancel_left, lf_es, Nat.add_sub_cancel]
/-- x & (x - 1): the lowest set place is cleared -/
theorem lf_clr (t q j : Nat) : (2 ^ t * (2 * q + 1) &&& (2 ^ t * (2 * q + 1) - 1)).testBit j = ((2 ^ t * (2 * q + 1)).testBit j && decide (j ≠ t)) := by
  rw [Nat.testBit_and]
  rcases Nat.lt_trichotomy j t with h | h | h
  · rw [lf_lo h, Bool.false_and, Bool.false_and]
  · subst h
    rw [lf_pat, Bool.and_false, decide_eq_false (fun z => z rfl), Bool.and_false]
  · rw [lf_phi h, lf_hi h, Bool.and_self, decide_eq_true (by omega), Bool.and_true]
/-- ~x & (x - 1): the places below the lowest set one -/
theorem lf_low {t q j : Nat} (hj : j < 32) : (((2 ^ t * (2 * q + 1)) ^^^ (2 ^ 32 - 1)) &&& (2 ^ t * (2 * q + 1) - 1)).testBit j = (2 ^ t - 1).testBit j := by
  rw [Nat.testBit_and, Nat.testBit_xor, Nat.testBit_two_pow_sub_one, Nat.testBit_two_pow_sub_one, decide_eq_true hj]
  rcases Nat.lt_trichotomy j t with h | h | h
  · rw [lf_lo h, lf_plo h, decide_eq_true h]
    rfl
  · subst h
    rw [lf_pat, Bool.and_false, decide_eq_false (Nat.lt_irrefl j)]
  · rw [lf_phi h, lf_hi h, decide_eq_false (show ¬ j < t by omega)]
    cases q.testBit (j - t - 1) <;> rfl
/-- how many places below i are set -/
def lf_cnt (n : Nat) : Nat → Nat
  | 0 => 0
  | i + 1 => lf_cnt n i + (if n.testBit i = true then 1 else 0)
theorem lf_c1 {n i : Nat} (h : n.testBit i = true) : lf_cnt n (i + 1) = lf_cnt n i + 1 := by
  show lf_cnt n i + (if n.testBit i = true then 1 else 0) = _
  rw [if_pos h]
theorem lf_c0 {n i : Nat} (h : n.testBit i = false) : lf_cnt n (i + 1) = lf_cnt n i := by
  show lf_cnt n i + (if n.testBit i = true then 1 else 0) = _
  rw [if_neg (by rw [h]; decide), Nat.add_zero]
theorem lf_cs (n i : Nat) : lf_cnt n i ≤ lf_cnt n (i + 1) := Nat.le_add_right _ _
theorem lf_mono {n i : Nat} : ∀ {j : Nat}, i ≤ j → lf_cnt n i ≤ lf_cnt n j := by
  intro j
  induction j with
  | zero => intro h; rw [Nat.le_zero.mp h]; exact Nat.le_refl _
  | succ j ih =>
    intro h
    rcases Nat.lt_or_ge i (j + 1) with g | g
    · exact Nat.le_trans (ih (by omega)) (lf_cs n j)
    · rw [Nat.le_antisymm h g]
      exact Nat.le_refl _
theorem lf_lt {n i j : Nat} (hb : n.testBit i = true) (h : i < j) : lf_cnt n i < lf_cnt n j := by
  have k := lf_mono (n := n) (show i + 1 ≤ j from h)
  rw [lf_c1 hb] at k
  exact k
theorem lf_le (n i : Nat) : lf_cnt n i ≤ i := by
  induction i with
  | zero => exact Nat.le_refl 0
  | succ i ih =>
    cases h : n.testBit i with
    | true => rw [lf_c1 h]; omega
    | false => rw [lf_c0 h]; omega
/-- every number below the count is some set place's -/
theorem lf_ivt {n c : Nat} : ∀ {j : Nat}, c < lf_cnt n j → ∃ i, i < j ∧ n.testBit i = true ∧ lf_cnt n i = c := by
  intro j
  induction j with
  | zero => intro h; exact absurd h (Nat.not_lt_zero c)
  | succ j ih =>
    intro h
    by_cases g : c < lf_cnt n j
    · obtain ⟨i, h1, h2, h3⟩ := ih g
      exact ⟨i, by omega, h2, h3⟩
    · cases hb : n.testBit j with
      | true => rw [lf_c1 hb] at h; exact ⟨j, by omega, hb, by omega⟩
      | false => rw [lf_c0 hb] at h; exact absurd h g
/-- p is the place of the k-th set bit -/
def lf_at (n k p : Nat) : Prop := p < 64 ∧ n.testBit p = true ∧ lf_cnt n p = k
theorem lf_uniq {n k p r : Nat} (h : lf_at n k p) (g : lf_at n k r) : p = r := by
  obtain ⟨_, h2, h3⟩ := h
  obtain ⟨_, g2, g3⟩ := g
  rcases Nat.lt_trichotomy p r with z | z | z
  · have := lf_lt h2 z
    omega
  · exact z
  · have := lf_lt g2 z
    omega
/-- the array's first c rows are the boxes of the first c set places -/
def lf_rows (n : Nat) (ad : Nat → Nat) (a : Nat → Option Nat) (c : Nat) : Prop := ∀ k, k < c → ∃ p, lf_at n k p ∧ a k = some (ad (128 + p))
theorem lf_rows_0 {n : Nat} {ad : Nat → Nat} {a : Nat → Option Nat} : lf_rows n ad a 0 := fun _ h => absurd h (Nat.not_lt_zero _)
theorem lf_rows_add {n : Nat} {ad : Nat → Nat} {a : Nat → Option Nat} {c p : Nat} (h : lf_rows n ad a c) (hp : lf_at n c p) : lf_rows n ad (va_up a c (some (ad (128 + p)))) (c + 1) := by
  intro k hk
  by_cases e : k = c
  · subst e
    exact ⟨p, hp, if_pos rfl⟩
  · obtain ⟨r, h1, h2⟩ := h k (by omega)
    exact ⟨r, h1, (if_neg e).trans h2⟩
theorem lf_rows_le {n : Nat} {ad : Nat → Nat} {a : Nat → Option Nat} {c : Nat} (h : lf_rows n ad a c) : c ≤ lf_cnt n 64 := by
  cases c with
  | zero => exact Nat.zero_le _
  | succ c =>
    obtain ⟨p, ⟨h1, h2, h3⟩, _⟩ := h c (Nat.lt_succ_self c)
    have := lf_lt h2 h1
    omega
/-- x: what is left of n when its c lowest set places are cleared -/
def lf_rest (n x c : Nat) : Prop := x < 2 ^ 64 ∧ ∀ j, x.testBit j = (n.testBit j && decide (c ≤ lf_cnt n j))
theorem lf_rest_0 {n : Nat} (h : n < 2 ^ 64) : lf_rest n n 0 := by
  refine ⟨h, fun j => ?_⟩
  rw [decide_eq_true (Nat.zero_le _), Bool.and_true]
theorem lf_rest_z {n c : Nat} (h : lf_rest n 0 c) : lf_cnt n 64 ≤ c := by
  rcases Nat.lt_or_ge c (lf_cnt n 64) with g | g
  · obtain ⟨i, _, h2, h3⟩ := lf_ivt g
    have k := h.2 i
    rw [h2, h3, decide_eq_true (Nat.le_refl c), Nat.zero_testBit] at k
    exact absurd k (by decide)
  · exact g
theorem lf_rest_n {n x c t q : Nat} (h : lf_rest n x c) (hx : x = 2 ^ t * (2 * q + 1)) : lf_at n c t ∧ lf_rest n (x &&& (x - 1)) (c + 1) := by
  subst hx
  obtain ⟨hl, hb⟩ := h
  have ht : t < 64 := by
    rcases Nat.lt_or_ge t 64 with g | g
    · exact g
    · have h1 : 2 ^ 64 ≤ 2 ^ t := Nat.pow_le_pow_right (by decide) g
      have h2 : 2 ^ t * 1 ≤ 2 ^ t * (2 * q + 1) := Nat.mul_le_mul_left _ (by omega)
      omega
  have k := hb t
  rw [lf_at0] at k
  have k2 := k.symm
  rw [Bool.and_eq_true] at k2
  have nb : n.testBit t = true := k2.1
  have nc : c ≤ lf_cnt n t := of_decide_eq_true k2.2
  have ec : lf_cnt n t = c := by
    rcases Nat.lt_or_ge c (lf_cnt n t) with g | g
    · obtain ⟨i, h1, h2, h3⟩ := lf_ivt g
      have e := hb i
      rw [lf_lo h1, h2, h3, decide_eq_true (Nat.le_refl c)] at e
      exact absurd e (by decide)
    · omega
  refine ⟨⟨ht, nb, ec⟩, Nat.lt_of_le_of_lt Nat.and_le_left hl, fun j => ?_⟩
  rw [lf_clr, hb j]
  cases nj : n.testBit j with
  | false => rfl
  | true =>
    rw [Bool.true_and, Bool.true_and]
    rcases Nat.lt_trichotomy j t with g | g | g
    · have := lf_lt nj g
      rw [decide_eq_false (show ¬ c ≤ lf_cnt n j by omega), decide_eq_false (show ¬ c + 1 ≤ lf_cnt n j by omega), Bool.false_and]
    · subst g
      rw [decide_eq_false (show ¬ c + 1 ≤ lf_cnt n j by omega), decide_eq_false (show ¬ j ≠ j from fun z => z rfl), Bool.and_false]
    · have := lf_lt nb g
      rw [decide_eq_true (show c ≤ lf_cnt n j by omega), decide_eq_true (show c + 1 ≤ lf_cnt n j by omega), decide_eq_true (show j ≠ t by omega), Bool.true_and]
end
section
/-! the methods over ints: numberOfTrailingZeros, isSet, setBelow -/
theorem lf_nIext {a b : Nat} (h : ∀ j, j < 32 → a.testBit j = b.testBit j) : nI a = nI b := by
  apply Int32.toBitVec_inj.1
  show BitVec.ofNat 32 a = BitVec.ofNat 32 b
  apply BitVec.eq_of_getLsbD_eq
  intro i hi
  rw [BitVec.getLsbD_ofNat, BitVec.getLsbD_ofNat, h i hi]
theorem lf_nIbit {a b : Nat} (h : nI a = nI b) {j : Nat} (hj : j < 32) : a.testBit j = b.testBit j := by
  have e : BitVec.ofNat 32 a = BitVec.ofNat 32 b := congrArg Int32.toBitVec h
  have k := congrArg (fun v => BitVec.getLsbD v j) e
  simp only [BitVec.getLsbD_ofNat, decide_eq_true hj, Bool.true_and] at k
  exact k
def lf_g62 (x0 x1 : Int32) : Int32 := if x0 ≤ 4 then x1 + ((x0.toUInt32 >>> ((1 : Int32).toUInt32 &&& Int32.toUInt32 31)).toInt32) else (x1 + 2) + (((x0.toUInt32 >>> ((2 : Int32).toUInt32 &&& Int32.toUInt32 31)).toInt32.toUInt32 >>> ((1 : Int32).toUInt32 &&& Int32.toUInt32 31)).toInt32)
def lf_g49 (x0 x1 : Int32) : Int32 := if x0 ≤ 16 then lf_g62 x0 x1 else lf_g62 (x0.toUInt32 >>> ((4 : Int32).toUInt32 &&& Int32.toUInt32 31)).toInt32 (x1 + 4)
def lf_g34 (x0 x1 : Int32) : Int32 := if x0 ≤ 256 then lf_g49 x0 x1 else lf_g49 (x0.toUInt32 >>> ((8 : Int32).toUInt32 &&& Int32.toUInt32 31)).toInt32 (x1 + 8)
def lf_g16 (x0 : Int32) : Int32 := if x0 ≤ 65536 then lf_g34 x0 1 else lf_g34 (x0.toUInt32 >>> ((16 : Int32).toUInt32 &&& Int32.toUInt32 31)).toInt32 (1 + 16)
def lf_g0 (x0 : Int32) : Int32 := if 0 < x0 then lf_g16 x0 else x0 &&& 32
theorem lf_w62 {post : Int32 → Prop} {x0 x1 : Int32} (h : post (lf_g62 x0 x1)) : wJ6_numberOfTrailingZeros_0f7a4_565d2_62 post x0 x1 := by
  unfold lf_g62 at h
  by_cases c : x0 ≤ 4
  · rw [if_pos c] at h
    exact br_t c h
  · rw [if_neg c] at h
    exact br_f c (nm_e (nm_e h))
theorem lf_w49 {post : Int32 → Prop} {x0 x1 : Int32} (h : post (lf_g49 x0 x1)) : wJ6_numberOfTrailingZeros_0f7a4_565d2_49 post x0 x1 := by
  unfold lf_g49 at h
  by_cases c : x0 ≤ 16
  · rw [if_pos c] at h
    exact br_t c (lf_w62 h)
  · rw [if_neg c] at h
    exact br_f c (nm_e (nm_e (lf_w62 h)))
theorem lf_w34 {post : Int32 → Prop} {x0 x1 : Int32} (h : post (lf_g34 x0 x1)) : wJ6_numberOfTrailingZeros_0f7a4_565d2_34 post x0 x1 := by
  unfold lf_g34 at h
  by_cases c : x0 ≤ 256
  · rw [if_pos c] at h
    exact br_t c (lf_w49 h)
  · rw [if_neg c] at h
    exact br_f c (nm_e (nm_e (lf_w49 h)))
theorem lf_w0 {post : Int32 → Prop} {p0 x : Int32} (e : (p0 ^^^ (-1)) &&& (p0 - 1) = x) (h : post (lf_g0 x)) : wpJ6_numberOfTrailingZeros_0f7a4_565d2 post () p0 := by
  refine nm_r e ?_
  unfold lf_g0 at h
  by_cases c : 0 < x
  · rw [if_pos c] at h
    refine br_t c ?_
    unfold lf_g16 at h
    by_cases d : x ≤ 65536
    · rw [if_pos d] at h
      exact br_t d (lf_w34 h)
    · rw [if_neg d] at h
      exact br_f d (nm_e (nm_e (lf_w34 h)))
  · rw [if_neg c] at h
    exact br_f c h
theorem lf_nt : ∀ t, t < 32 → lf_g0 (nI (2 ^ t - 1)) = nI t := by decide +kernel
theorem lf_m1 : (-1 : Int32) = nI (2 ^ 32 - 1) := by decide +kernel
/-- Integer.numberOfTrailingZeros: the lowest set place -/
theorem lf_ntz {post : Int32 → Prop} {x t q : Nat} (hx : x = 2 ^ t * (2 * q + 1)) (ht : t < 32) (h : post (nI t)) : wpJ6_numberOfTrailingZeros_0f7a4_565d2 post () (nI x) := by
  have h0 : 1 ≤ x := by
    have h1 : 0 < 2 ^ t := Nat.two_pow_pos t
    have h2 : 2 ^ t * 1 ≤ 2 ^ t * (2 * q + 1) := Nat.mul_le_mul_left _ (by omega)
    omega
  have es : nI x - 1 = nI (x - 1) := pk_sub (a := x) (b := 1) h0
  have e : (nI x ^^^ (-1)) &&& (nI x - 1) = nI (2 ^ t - 1) := by
    rw [es, lf_m1, nx_xor, nx_and, hx]
    exact lf_nIext (fun j hj => lf_low hj)
  refine lf_w0 e ?_
  rw [lf_nt t ht]
  exact h
/-- Long.numberOfTrailingZeros -/
theorem lf_ntzL {post : Int32 → Prop} {x t q : Nat} (hx : x = 2 ^ t * (2 * q + 1)) (hl : x < 2 ^ 64) (ht : t < 64) (h : post (nI t)) : wpJ13_numberOfTrailingZeros_95d88_565d2 post () (lN x) := by
  unfold wpJ13_numberOfTrailingZeros_95d88_565d2
  rw [lN_i]
  rcases Nat.lt_or_ge t 32 with g | g
  · refine br_f (fun z => ?_) (lf_ntz hx g h)
    have k := lf_nIbit (show nI x = nI 0 from z) g
    rw [hx, lf_at0, Nat.zero_testBit] at k
    exact absurd k (by decide)
  · have z : nI x = 0 := by
      refine lf_nIext (b := 0) (fun j hj => ?_)
      rw [hx, lf_lo (show j < t by omega), Nat.zero_testBit]
    have e : x / 2 ^ 32 = 2 ^ (t - 32) * (2 * q + 1) := by
      have ep : 2 ^ t = 2 ^ 32 * 2 ^ (t - 32) := wb_pw g
      rw [hx, ep, Nat.mul_assoc, Nat.mul_div_cancel_left _ (by decide)]
    have es : ((lN x).toUInt64 >>> ((32 : Int32).toInt64.toUInt64 &&& Int64.toUInt64 63)).toInt64 = lN (x / 2 ^ 32) := wb_shr (k := 32) hl (by decide)
    rw [es, lN_i]
    refine br_t z (lf_ntz e (by omega) ?_)
    have ea : (32 : Int32) + nI (t - 32) = nI t := (nI_add 32 (t - 32)).trans (by rw [Nat.add_sub_cancel' g])
    show post (32 + nI (t - 32))
    rw [ea]
    exact h
theorem lf_dec {x : Nat} (h0 : 0 < x) (hl : x < 2 ^ 64) : lN x &&& (lN x - 1) = lN (x &&& (x - 1)) := by
  have e : lN x - 1 = lN (x - 1) := lN_sub (a := x) (b := 1) h0
  rw [e, wb_and hl (by omega)]
theorem lf_nz {x : Nat} (h0 : ¬ x = 0) (hl : x < 2 ^ 64) : ¬ lN x = 0 := by
  intro z
  have k : (lN x).toBitVec.toNat = (lN 0).toBitVec.toNat := congrArg (fun v => v.toBitVec.toNat) (show lN x = lN 0 from z)
  rw [wb_tn hl, wb_tn (by decide)] at k
  exact h0 k
/-- a remainder by two is zero: the lowest bit isn't set -/
theorem lf_rem2 (y : Int64) : y - y / 2 * 2 = 0 ↔ y.toBitVec.getLsbD 0 = false := by
  have e1 : y - y / 2 * 2 = 0 ↔ y.toInt.tmod 2 = 0 := by
    rw [← Int64.toInt_inj, Jvm.Kit.i64_rem]
    exact Iff.rfl
  have e2 : y.toBitVec.getLsbD 0 = decide (y.toBitVec.toNat % 2 = 1) := Nat.testBit_zero _
  have e3 : y.toInt = y.toBitVec.toInt := rfl
  rw [e1, e2, ← Int.dvd_iff_tmod_eq_zero, Int.dvd_iff_emod_eq_zero, e3, BitVec.toInt_eq_toNat_cond, decide_eq_false_iff_not]
  split <;> omega
theorem lf_shr {n k : Nat} (hk : k < 64) : (lN n >>> ((nI k).toInt64 &&& 63)).toBitVec.getLsbD 0 = n.testBit k := by
  rw [wb_c k hk, Int64.toBitVec_shiftRight, wb_tb, wb_tb, wb_sm k hk, BitVec.sshiftRight_eq', BitVec.getLsbD_sshiftRight, BitVec.toNat_ofNat, Nat.mod_eq_of_lt (show k < 2 ^ 64 by omega), Nat.add_zero, if_pos hk, BitVec.getLsbD_ofNat, decide_eq_true hk]
  simp
theorem lf_isSet {post : Int32 → Prop} {n k : Nat} (hk : k < 64) (h1 : n.testBit k = true → post 1) (h0 : n.testBit k = false → post 0) : wpX2_isSet post () (lN n) (nI k) := by
  refine ⟨by decide, ek_if (lf_rem2 _) (fun z => h0 ?_) (fun z => h1 ?_)⟩
  · rw [lf_shr hk] at z
    exact z
  · rw [lf_shr hk] at z
    cases e : n.testBit k with
    | true => rfl
    | false => exact absurd e z
theorem lf_setBelow {post : Int32 → Prop} {n k : Nat} (hk : k ≤ 64) (h : post (nI (lf_cnt n k))) : wpX2_setBelow post () (lN n) (nI k) :=
  pk_loop (σ := Unit) (fun m i _ => wX2_setBelow_5 post (lN n) (nI k) m (nI (lf_cnt n i)) (nI i)) (fun _ _ => True) k 0 () (by omega) trivial
    (fun m _ _ => pk_le k k (fun _ => h) (fun z => absurd z (by omega)))
    (fun m i _ hi _ hw => pk_le k i (fun z => absurd z (by omega)) (fun _ => lf_isSet (by omega)
      (fun hb => br_f (by decide) (nm_r ((nI_1 _).trans (by rw [lf_c1 hb])) (nm_r (nI_1 i) (hw () trivial))))
      (fun hb => br_t rfl (nm_r (nI_1 i) (by have t := hw () trivial; rw [lf_c0 hb] at t; exact t)))))
end
section
/-! boxes and lists (lf_add, lf_add_first, lf_get began as rows of the kit's LIST-LAWS.2), then the two loops -/
theorem lf_bx {LP : List Nat} {p : Nat → Int32} {adB : Nat → Nat} {k : Nat} (hk : k < 64) : vb_bx LP p adB (adB (128 + k)) (nI k) :=
  Or.inr ⟨128 + k, by omega, rfl, (by decide +kernel : ∀ k, k < 64 → nI k = vb_c (128 + k)) k hk⟩
theorem lf_bm {LP : List Nat} {adB : Nat → Nat} {k : Nat} (hk : k < 64) : vb_bm LP adB (adB (128 + k)) := Or.inr ⟨128 + k, by omega, rfl⟩
/-- Integer.valueOf of a place: the box of the table -/
theorem lf_valueOf {post : Option Nat → StJd1a94 → Prop} {mc ms : Nat} {adB : Nat → Nat} {LP : List Nat} {p : Nat → Int32} {k : Nat} (hk : k < 64) (h : post (some (adB (128 + k))) (LP, p)) : wpJ6_valueOf_2dffe_e41c5 post mc ms adB (LP, p) (nI k) := by
  have e : nI k + 128 = nI (128 + k) := (nI_add k 128).trans (by rw [Nat.add_comm])
  refine br_f ((by decide +kernel : ∀ k, k < 64 → ¬ nI k < (-128)) k hk) (br_f (show ¬ nI 127 < nI k from nI_nlt (by omega) (by decide)) ⟨?_, ?_⟩)
  · rw [e]
    exact vp_in_nI (by omega) (by decide)
  · rw [e, nI_clamp (by omega)]
    exact h
theorem lf_add {post : Int32 → StJ174e4 → Prop} {mc ms : Nat} {adB : Nat → Nat} {m : Int32} {c n : Nat} {a : Nat → Option Nat} {LP : List Nat} {p : Nat → Int32} {q : Nat} (hc : c < n) (hn : n < 2 ^ 31) (hq : vb_bm LP adB q)
    (h : post 1 (m + 1, nI (c + 1), va_up a c (some q), n, LP, p)) : wpJx4a65c_add_9ea2d_fa824 post mc ms adB (m, nI c, a, n, LP, p) q := by
  intro f1 e1
  subst e1
  refine ⟨0, 0, by omega, by omega, br_f (fun z => absurd ((nI_eq (by omega) hn).mp z) (by omega)) ⟨vp_in_nI hc hn, hq, ?_⟩⟩
  intro a' ea f' ef
  rw [nI_clamp (by omega)] at ea
  rw [nI_1] at ef
  subst ea ef
  exact h
theorem lf_add_first {post : Int32 → StJ174e4 → Prop} {mc ms : Nat} {adB : Nat → Nat} {m : Int32} {LP : List Nat} {p : Nat → Int32} {q : Nat} (hm : 1 ≤ mc) (hs : 10 ≤ ms) (hq : vb_bm LP adB q)
    (h : post 1 (m + 1, nI 1, va_up (fun _ => none) 0 (some q), 10, LP, p)) : wpJx4a65c_add_9ea2d_8607b post mc ms adB (m, 0, LP, p) q := by
  intro f1 e1
  subst e1
  refine ⟨1, 10, by omega, by omega, br_t rfl ⟨1, 10, by omega, by omega, ⟨1, 10, by omega, by omega, by decide, ?_⟩⟩⟩
  intro n en
  have e10 : n = 10 := en.trans (by decide)
  subst e10
  refine ⟨by decide, by decide, by decide, ⟨by unfold vp_in; decide, hq, ?_⟩⟩
  intro a' ea f' ef
  have ea' : a' = va_up (fun _ => none) 0 (some q) := ea.trans (by rw [show (0 : Int32).toNatClampNeg = 0 by decide])
  have ef' : f' = nI 1 := ef.trans (by decide)
  subst ea' ef'
  exact h
theorem lf_get {post : Option Nat → Prop} {adB : Nat → Nat} {m : Int32} {c n i y : Nat} {a : Nat → Option Nat} {LP : List Nat} {p : Nat → Int32} (hi : i < c) (hc : c ≤ n) (hn : n < 2 ^ 31) (ha : a i = some y) (h : post (some y)) : wpJx4a65c_get_915e3_e1769 post adB (m, nI c, a, n, LP, p) (nI i) := by
  have e : a (nI i).toNatClampNeg = some y := by rw [nI_clamp (by omega)]; exact ha
  exact br_f (nI_pos (by omega)) (br_t (nI_lt hi (by omega)) ⟨vp_in_nI (by omega) hn, op_s e (op_s rfl h)⟩)
/-- BitRights.lowestFive's loop, the array made -/
theorem lf_8r {post : (St2 ⊕ St3) → Prop} {mc ms : Nat} {adB : Nat → Nat} {n : Nat} {LP : List Nat} {p : Nat → Int32}
    (H : ∀ m a, lf_rows n adB a (min 5 (lf_cnt n 64)) → post (.inr (m, nI (min 5 (lf_cnt n 64)), a, 10, LP, p))) :
    ∀ (fu c x kc ks : Nat) (m : Int32) (a : Nat → Option Nat), c ≤ 5 → 5 < fu + c → kc ≤ mc → ks ≤ ms → lf_rest n x c → lf_rows n adB a c →
    wX1_lowestFive_8 post mc ms adB fu (.inr (lN x, kc, ks, m, nI c, a, 10, LP, p)) := by
  intro fu
  induction fu with
  | zero => intro c x kc ks m a h1 h2; omega
  | succ fu ih =>
    intro c x kc ks m a h1 h2 h3 h4 hs hr
    have hle := lf_rows_le hr
    by_cases hx : x = 0
    · subst hx
      have hz := lf_rest_z hs
      have e : min 5 (lf_cnt n 64) = c := by omega
      have k := H m a (by rw [e]; exact hr)
      rw [e] at k
      exact br_t rfl k
    · refine br_f (lf_nz hx hs.1) (pk_le 5 c (fun g => ?_) (fun g => ?_))
      · have e : min 5 (lf_cnt n 64) = c := by omega
        have k := H m a (by rw [e]; exact hr)
        rw [e] at k
        exact k
      · obtain ⟨t, q, e⟩ := lf_odd x (by omega)
        obtain ⟨ha, hs2⟩ := lf_rest_n hs e
        refine lf_ntzL e hs.1 ha.1 ⟨0, 0, by omega, by omega, lf_valueOf ha.1 (co_some _ ⟨0, 0, by omega, by omega, lf_add (by omega) (by decide) (lf_bm ha.1) (nm_r (lf_dec (by omega) hs.1) ?_)⟩)⟩
        exact ih (c + 1) _ _ _ _ _ (by omega) (by omega) (by omega) (by omega) hs2 (lf_rows_add hr ha)
/-- BitRights.lowestFive -/
theorem lf_x1 {post : (St2 ⊕ St3) → Prop} {mc ms : Nat} {adB : Nat → Nat} {n : Nat} {LP : List Nat} {p : Nat → Int32} (hn : n < 2 ^ 64) (hm : 2 ≤ mc) (hs : 13 ≤ ms)
    (H0 : lf_cnt n 64 = 0 → ∀ m, post (.inl (m, 0, LP, p)))
    (H1 : 0 < lf_cnt n 64 → ∀ m a, lf_rows n adB a (min 5 (lf_cnt n 64)) → post (.inr (m, nI (min 5 (lf_cnt n 64)), a, 10, LP, p))) :
    wpX1_lowestFive post mc ms adB (LP, p) (lN n) := by
  refine ⟨by omega, by omega, 7, ?_⟩
  by_cases hx : n = 0
  · subst hx
    exact br_t rfl (H0 (Nat.le_zero.mp (lf_rest_z (lf_rest_0 (by decide)))) 0)
  · refine br_f (lf_nz hx hn) (br_f (show ¬ (5 : Int32) ≤ 0 by decide) ?_)
    obtain ⟨t, q, e⟩ := lf_odd n (by omega)
    obtain ⟨ha, hs2⟩ := lf_rest_n (lf_rest_0 hn) e
    have hr : lf_rows n adB (va_up (fun _ => none) 0 (some (adB (128 + t)))) 1 := lf_rows_add lf_rows_0 ha
    have hle := lf_rows_le hr
    refine lf_ntzL e hn ha.1 ⟨0, 0, by omega, by omega, lf_valueOf ha.1 (co_some _ ⟨1, 10, by omega, by omega, lf_add_first (by decide) (by decide) (lf_bm ha.1) (nm_r (lf_dec (by omega) hn) ?_)⟩)⟩
    exact lf_8r (H1 (by omega)) 6 1 _ _ _ _ _ (by decide) (by decide) (by omega) (by omega) hs2 hr
/-- BitRightsPlain.lowestFive's loop, the array made -/
theorem lf_10r {post : (St2 ⊕ St3) → Prop} {mc ms : Nat} {adB : Nat → Nat} {n : Nat} {LP : List Nat} {p : Nat → Int32}
    (H : ∀ m a, lf_rows n adB a (min 5 (lf_cnt n 64)) → post (.inr (m, nI (min 5 (lf_cnt n 64)), a, 10, LP, p))) :
    ∀ (fu i kc ks : Nat) (m : Int32) (a : Nat → Option Nat), i ≤ 64 → 64 < fu + i → kc ≤ mc → ks ≤ ms → lf_rows n adB a (min 5 (lf_cnt n i)) →
    wX2_lowestFive_10 post mc ms adB fu (.inr (lN n, nI i, kc, ks, m, nI (min 5 (lf_cnt n i)), a, 10, LP, p)) := by
  intro fu
  induction fu with
  | zero => intro i kc ks m a h1 h2; omega
  | succ fu ih =>
    intro i kc ks m a h1 h2 h3 h4 hr
    have hle := lf_le n i
    by_cases hi : i = 64
    · subst hi
      exact br_t (show nI 64 ≤ nI 64 from nI_le (Nat.le_refl _) (by decide)) (H m a hr)
    · refine br_f (show ¬ nI 64 ≤ nI i from nI_ge (by omega) (by decide)) (lf_isSet (by omega) (fun hb => ?_) (fun hb => ?_))
      · refine br_f (by decide) (lf_setBelow (by omega) (pk_le 5 (lf_cnt n i) (fun g => nm_r (nI_1 i) ?_) (fun g => ⟨0, 0, by omega, by omega, lf_valueOf (by omega) (co_some _ ⟨0, 0, by omega, by omega, ?_⟩)⟩)))
        · have e : min 5 (lf_cnt n (i + 1)) = min 5 (lf_cnt n i) := by rw [lf_c1 hb]; omega
          have k := ih (i + 1) kc ks m a (by omega) (by omega) h3 h4 (by rw [e]; exact hr)
          rw [e] at k
          exact k
        · have e0 : min 5 (lf_cnt n i) = lf_cnt n i := by omega
          have e1 : min 5 (lf_cnt n (i + 1)) = lf_cnt n i + 1 := by rw [lf_c1 hb]; omega
          rw [e0] at hr ⊢
          refine lf_add (by omega) (by decide) (lf_bm (by omega)) (nm_r (nI_1 i) ?_)
          have k := ih (i + 1) (kc + 0 + 0) (ks + 0 + 0) (m + 1) _ (by omega) (by omega) (by omega) (by omega) (by rw [e1]; exact lf_rows_add hr ⟨by omega, hb, rfl⟩)
          rw [e1] at k
          exact k
      · refine br_t rfl (nm_r (nI_1 i) ?_)
        have k := ih (i + 1) kc ks m a (by omega) (by omega) h3 h4 (by rw [lf_c0 hb]; exact hr)
        rw [lf_c0 hb] at k
        exact k
/-- .. and from its start -/
theorem lf_10l {post : (St2 ⊕ St3) → Prop} {mc ms : Nat} {adB : Nat → Nat} {n : Nat} {LP : List Nat} {p : Nat → Int32}
    (H0 : lf_cnt n 64 = 0 → ∀ m, post (.inl (m, 0, LP, p)))
    (H1 : 0 < lf_cnt n 64 → ∀ m a, lf_rows n adB a (min 5 (lf_cnt n 64)) → post (.inr (m, nI (min 5 (lf_cnt n 64)), a, 10, LP, p))) :
    ∀ (fu i kc ks : Nat) (m : Int32), i ≤ 64 → 64 < fu + i → kc + 1 ≤ mc → ks + 10 ≤ ms → lf_cnt n i = 0 →
    wX2_lowestFive_10 post mc ms adB fu (.inl (lN n, nI i, kc, ks, m, 0, LP, p)) := by
  intro fu
  induction fu with
  | zero => intro i kc ks m h1 h2; omega
  | succ fu ih =>
    intro i kc ks m h1 h2 h3 h4 hc
    by_cases hi : i = 64
    · subst hi
      exact br_t (show nI 64 ≤ nI 64 from nI_le (Nat.le_refl _) (by decide)) (H0 hc m)
    · refine br_f (show ¬ nI 64 ≤ nI i from nI_ge (by omega) (by decide)) (lf_isSet (by omega) (fun hb => ?_) (fun hb => ?_))
      · refine br_f (by decide) (lf_setBelow (by omega) (pk_le 5 (lf_cnt n i) (fun g => absurd g (by omega)) (fun g => ⟨0, 0, by omega, by omega, lf_valueOf (by omega) (co_some _ ⟨1, 10, by omega, by omega, lf_add_first (by decide) (by decide) (lf_bm (show i < 64 by omega)) (nm_r (nI_1 i) ?_)⟩)⟩)))
        have hr : lf_rows n adB (va_up (fun _ => none) 0 (some (adB (128 + i)))) 1 := lf_rows_add lf_rows_0 ⟨by omega, hb, hc⟩
        have hle := lf_rows_le hr
        have e1 : min 5 (lf_cnt n (i + 1)) = 1 := by rw [lf_c1 hb]; omega
        have k := lf_10r (H1 (by omega)) fu (i + 1) (kc + 0 + 1) (ks + 0 + 10) (m + 1) _ (by omega) (by omega) (by omega) (by omega) (by rw [e1]; exact hr)
        rw [e1] at k
        exact k
      · exact br_t rfl (nm_r (nI_1 i) (ih (i + 1) kc ks m (by omega) (by omega) h3 h4 (by rw [lf_c0 hb]; exact hc)))
theorem lf_x2 {post : (St2 ⊕ St3) → Prop} {mc ms : Nat} {adB : Nat → Nat} {n : Nat} {LP : List Nat} {p : Nat → Int32} (hm : 2 ≤ mc) (hs : 13 ≤ ms)
    (H0 : lf_cnt n 64 = 0 → ∀ m, post (.inl (m, 0, LP, p)))
    (H1 : 0 < lf_cnt n 64 → ∀ m a, lf_rows n adB a (min 5 (lf_cnt n 64)) → post (.inr (m, nI (min 5 (lf_cnt n 64)), a, 10, LP, p))) :
    wpX2_lowestFive post mc ms adB (LP, p) (lN n) :=
  ⟨by omega, by omega, 65, lf_10l H0 H1 65 0 1 3 0 (by decide) (by decide) (by omega) (by omega) rfl⟩
end
section
/-! the law: the two lists are compared, then the statement that is owed -/
theorem lf_30 {post : Int32 → St1 → Prop} {mc ms kc ks : Nat} {adB : Nat → Nat} {n c : Nat} {m1 m2 : Int32} {a b : Nat → Option Nat} {LP : List Nat} {p : Nat → Int32} (hc : c ≤ 5) (ha : lf_rows n adB a c) (hb : lf_rows n adB b c) (H : post 1 (LP, p)) :
    ∀ fu k : Nat, k ≤ c → c < fu + k → wL_lawOf_30 post mc ms adB fu (.inr (.inr (.inr (nI k, kc, ks, m1, nI c, a, 10, m2, nI c, b, 10, LP, p)))) := by
  intro fu
  induction fu with
  | zero => intro k h1 h2; omega
  | succ fu ih =>
    intro k h1 h2
    refine pk_le c k (fun _ => H) (fun g => ?_)
    obtain ⟨r, h3, ea⟩ := ha k g
    obtain ⟨s, h4, eb⟩ := hb k g
    have es : s = r := lf_uniq h4 h3
    subst es
    refine lf_get g (by omega) (by decide) ea (op_s rfl ⟨lf_bm h3.1, _, lf_bx h3.1, ?_⟩)
    refine lf_get g (by omega) (by decide) eb (op_s rfl ⟨lf_bm h3.1, _, lf_bx h3.1, br_t rfl (nm_r (nI_1 k) ?_)⟩)
    exact ih (k + 1) (by omega) (by omega)
theorem lf_lawOf {post : Int32 → St1 → Prop} {adB : Nat → Nat} {n : Nat} {LP : List Nat} {p : Nat → Int32} (hn : n < 2 ^ 64) (H : post 1 (LP, p)) : wpL_lawOf post 4 26 adB (LP, p) (lN n) := by
  refine ⟨2, 13, by decide, by decide, lf_x1 hn (by decide) (by decide) (fun h0 m => ?_) (fun h1 m a hr => ?_)⟩
  · refine ⟨2, 13, by decide, by decide, lf_x2 (by decide) (by decide) (fun _ m2 => ?_) (fun z => absurd z (by omega))⟩
    exact br_t rfl ⟨1, br_t (show nI 0 ≤ nI 0 from nI_le (Nat.le_refl _) (by decide)) H⟩
  · refine ⟨2, 13, by decide, by decide, lf_x2 (by decide) (by decide) (fun z => absurd z (by omega)) (fun _ m2 b hb => ?_)⟩
    exact br_t rfl ⟨6, lf_30 (by omega) hr hb H 6 0 (Nat.zero_le _) (by omega)⟩
theorem lf_cell {post : Int32 → Prop} {L k : Nat} {xs : Nat → Int32} (hL : L < 2 ^ 31) (hk : k < 2 ^ 31) (h : ∀ r, post r) : wpL_cellAt post L xs () (nI k) :=
  pk_le L k (fun _ => h _) (fun g => ⟨vp_in_nI g hL, h _⟩)
theorem i_vc (xs : Nat → Int32) (L : Nat) (hL : L ≤ 2) : wpL_law (fun r => r = 1) L xs := by
  intro adB
  refine lf_cell (k := 0) (by omega) (by decide) (fun r1 => lf_cell (k := 1) (by omega) (by decide) (fun r2 => ⟨4, 26, by decide, by decide, ?_⟩))
  obtain ⟨n, hn, e⟩ := wb_of ((r1.toInt64 <<< ((32 : Int32).toInt64 &&& 63)) ||| (r2.toInt64 &&& 4294967295))
  rw [e]
  exact lf_lawOf hn rfl
end
