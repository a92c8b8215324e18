section
/-! rows of the kit (kit/rows): longs as lN n, shifts, masks, or as a sum -/
theorem wb_tb (n : Nat) : (lN n).toBitVec = BitVec.ofNat 64 n := rfl
theorem wb_inj {a b : Int64} (h : a.toBitVec = b.toBitVec) : a = b := Int64.toBitVec_inj.mp h
theorem wb_tn {n : Nat} (h : n < 2 ^ 64) : (lN n).toBitVec.toNat = n := by rw [wb_tb, BitVec.toNat_ofNat, Nat.mod_eq_of_lt h]
theorem wb_of (x : Int64) : ∃ n, n < 2 ^ 64 ∧ x = lN n := ⟨x.toBitVec.toNat, x.toBitVec.isLt, wb_inj (by rw [wb_tb]; simp)⟩
theorem wb_c : ∀ k, k < 64 → ((nI k).toInt64 &&& 63) = lN k := by decide +kernel
theorem wb_cu : ∀ k, k < 64 → ((nI k).toInt64.toUInt64 &&& Int64.toUInt64 63) = UInt64.ofNat k := by decide +kernel
theorem wb_sm : ∀ k, k < 64 → (BitVec.ofNat 64 k).smod 64 = BitVec.ofNat 64 k := by decide +kernel
theorem wb_lt2 {a b : Nat} (h : a < b) : 2 ^ a < 2 ^ b := Nat.pow_lt_pow_right (by decide) h
theorem wb_shr {n k : Nat} (hn : n < 2 ^ 64) (hk : k < 64) : ((lN n).toUInt64 >>> ((nI k).toInt64.toUInt64 &&& Int64.toUInt64 63)).toInt64 = lN (n / 2 ^ k) := by
  rw [wb_cu k hk]
  apply wb_inj
  apply BitVec.eq_of_toNat_eq
  show ((lN n).toUInt64 >>> UInt64.ofNat k).toNat = (BitVec.ofNat 64 _).toNat
  have h1 : (UInt64.ofNat k).toNat = k := by
    show (BitVec.ofNat 64 k).toNat = k
    rw [BitVec.toNat_ofNat, Nat.mod_eq_of_lt (by omega)]
  have h2 : (lN n).toUInt64.toNat = n := wb_tn hn
  rw [UInt64.toNat_shiftRight, h1, h2, Nat.mod_eq_of_lt hk, Nat.shiftRight_eq_div_pow, BitVec.toNat_ofNat, Nat.mod_eq_of_lt (Nat.lt_of_le_of_lt (Nat.div_le_self _ _) hn)]
theorem wb_shl (n : Nat) {k : Nat} (hk : k < 64) : lN n <<< ((nI k).toInt64 &&& 63) = lN (n * 2 ^ k) := by
  rw [wb_c k hk]
  apply wb_inj
  rw [Int64.toBitVec_shiftLeft, wb_tb, wb_tb, wb_tb, wb_sm k hk]
  apply BitVec.eq_of_toNat_eq
  rw [BitVec.shiftLeft_eq', BitVec.toNat_shiftLeft, BitVec.toNat_ofNat, BitVec.toNat_ofNat, BitVec.toNat_ofNat, Nat.mod_eq_of_lt (show k < 2 ^ 64 by omega), Nat.shiftLeft_eq, Nat.mul_mod, Nat.mod_mod, ← Nat.mul_mod]
theorem wb_and {a b : Nat} (ha : a < 2 ^ 64) (hb : b < 2 ^ 64) : lN a &&& lN b = lN (a &&& b) := by
  apply wb_inj
  rw [Int64.toBitVec_and, wb_tb, wb_tb, wb_tb]
  apply BitVec.eq_of_toNat_eq
  rw [BitVec.toNat_and, BitVec.toNat_ofNat, BitVec.toNat_ofNat, BitVec.toNat_ofNat, Nat.mod_eq_of_lt ha, Nat.mod_eq_of_lt hb, Nat.mod_eq_of_lt (Nat.and_lt_two_pow _ hb)]
theorem wb_or {a b : Nat} (ha : a < 2 ^ 64) (hb : b < 2 ^ 64) : lN a ||| lN b = lN (a ||| b) := by
  apply wb_inj
  rw [Int64.toBitVec_or, wb_tb, wb_tb, wb_tb]
  apply BitVec.eq_of_toNat_eq
  rw [BitVec.toNat_or, BitVec.toNat_ofNat, BitVec.toNat_ofNat, BitVec.toNat_ofNat, Nat.mod_eq_of_lt ha, Nat.mod_eq_of_lt hb, Nat.mod_eq_of_lt (Nat.or_lt_two_pow ha hb)]
theorem wb_mask {n k : Nat} (hn : n < 2 ^ 64) (hk : k < 64) : lN n &&& lN (2 ^ k - 1) = lN (n % 2 ^ k) := by
  rw [wb_and hn (by have := wb_lt2 hk; omega), Nat.and_two_pow_sub_one_eq_mod]
theorem u_tn {n : Nat} (h : n < 2 ^ 64) : (UInt64.ofNat n).toNat = n := Nat.mod_eq_of_lt h
theorem g_or {k p a b : Nat} (hp : 2 ^ k = p) (ha : a < p) (h : b * p + a < 2 ^ 64) : lN (b * p) ||| lN a = lN (b * p + a) := by
  subst hp
  have h1 : b * 2 ^ k ||| a = b * 2 ^ k + a := by rw [← Nat.shiftLeft_eq, Nat.shiftLeft_add_eq_or_of_lt ha]
  have h3 : UInt64.ofNat (b * 2 ^ k) ||| UInt64.ofNat a = UInt64.ofNat (b * 2 ^ k + a) := UInt64.toNat_inj.mp (by rw [UInt64.toNat_or, u_tn (by omega), u_tn (by omega), u_tn h, h1])
  have h2 := congrArg UInt64.toInt64 h3
  exact h2
theorem g_or' {k p a b : Nat} (hp : 2 ^ k = p) (ha : a < p) (h : a + b * p < 2 ^ 64) : lN a ||| lN (b * p) = lN (a + b * p) := by
  rw [Int64.or_comm, g_or hp ha (by omega), Nat.add_comm]
theorem pk_sub {a b : Nat} (h : b ≤ a) : nI a - nI b = nI (a - b) := by
  obtain ⟨c, rfl⟩ : ∃ c, a = c + b := ⟨a - b, by omega⟩
  rw [← nI_add, Int32.add_sub_cancel, Nat.add_sub_cancel]
end
section
/-! plain numbers: four lanes of sixteen bits; the lane masks; the weighted mean of two bytes -/
theorem sw_and {p q m z : Nat} (hp : p < 65536) (hm : m < 65536) : (p + 65536 * q) &&& (m + 65536 * z) = (p &&& m) + 65536 * (q &&& z) := by
  have h1 : ((p + 65536 * q) &&& (m + 65536 * z)) % 2 ^ 16 = p &&& m := by
    rw [Nat.and_mod_two_pow, show (p + 65536 * q) % 2 ^ 16 = p by omega, show (m + 65536 * z) % 2 ^ 16 = m by omega]
  have h2 : ((p + 65536 * q) &&& (m + 65536 * z)) / 2 ^ 16 = q &&& z := by
    rw [Nat.and_div_two_pow, show (p + 65536 * q) / 2 ^ 16 = q by omega, show (m + 65536 * z) / 2 ^ 16 = z by omega]
  rw [← h1, ← h2]
  exact (Nat.mod_add_div _ _).symm
theorem sw_or {p q m z : Nat} (hp : p < 65536) (hm : m < 65536) : (p + 65536 * q) ||| (m + 65536 * z) = (p ||| m) + 65536 * (q ||| z) := by
  have h1 : ((p + 65536 * q) ||| (m + 65536 * z)) % 2 ^ 16 = p ||| m := by
    rw [Nat.or_mod_two_pow, show (p + 65536 * q) % 2 ^ 16 = p by omega, show (m + 65536 * z) % 2 ^ 16 = m by omega]
  have h2 : ((p + 65536 * q) ||| (m + 65536 * z)) / 2 ^ 16 = q ||| z := by
    rw [Nat.or_div_two_pow, show (p + 65536 * q) / 2 ^ 16 = q by omega, show (m + 65536 * z) / 2 ^ 16 = z by omega]
  rw [← h1, ← h2]
  exact (Nat.mod_add_div _ _).symm
theorem sw_255 (c : Nat) : c &&& 255 = c % 256 := Nat.and_two_pow_sub_one_eq_mod c 8
theorem sw_lo {c y z : Nat} (hc : c < 65536) : (c + 65536 * y) &&& (255 + 65536 * z) = c % 256 + 65536 * (y &&& z) := by
  rw [sw_and hc (by decide), sw_255]
theorem sw_hi {c y z : Nat} (hc : c < 65536) : ((c + 65536 * y) / 256) &&& (255 + 65536 * z) = c / 256 + 65536 * ((y / 256) &&& z) := by
  have e : (c + 65536 * y) / 256 = (c / 256 + 256 * (y % 256)) + 65536 * (y / 256) := by omega
  have f : (c / 256 + 256 * (y % 256)) % 256 = c / 256 := by omega
  rw [e, sw_lo (by omega), f]
/-- four lanes of sixteen bits -/
def sw_q (a b c d : Nat) : Nat := a + 65536 * (b + 65536 * (c + 65536 * d))
theorem sw_q_lt {a b c d : Nat} (ha : a < 65536) (hb : b < 65536) (hc : c < 65536) (hd : d < 65536) : sw_q a b c d < 2 ^ 64 := by
  unfold sw_q
  omega
theorem sw_M : (71777214294589695 : Nat) = 255 + 65536 * (255 + 65536 * (255 + 65536 * 255)) := rfl
theorem sw_qlo {a b c d : Nat} (ha : a < 65536) (hb : b < 65536) (hc : c < 65536) : sw_q a b c d &&& 71777214294589695 = sw_q (a % 256) (b % 256) (c % 256) (d % 256) := by
  rw [sw_M]
  unfold sw_q
  rw [sw_lo ha, sw_lo hb, sw_lo hc, sw_255]
theorem sw_qhi {a b c d : Nat} (ha : a < 65536) (hb : b < 65536) (hc : c < 65536) (hd : d < 65536) : sw_q a b c d / 256 &&& 71777214294589695 = sw_q (a / 256) (b / 256) (c / 256) (d / 256) := by
  have h : d / 256 % 256 = d / 256 := by omega
  rw [sw_M]
  unfold sw_q
  rw [sw_hi ha, sw_hi hb, sw_hi hc, sw_255, h]
theorem sw_lm (x y x' y' v w : Nat) : (x + 65536 * y) * v + (x' + 65536 * y') * w = (x * v + x' * w) + 65536 * (y * v + y' * w) := by
  rw [Nat.add_mul, Nat.add_mul, Nat.mul_assoc, Nat.mul_assoc, Nat.mul_add]
  generalize x * v = p
  generalize x' * w = q
  generalize y * v = r
  generalize y' * w = s
  omega
theorem sw_qmul (a b c d a' b' c' d' v w : Nat) : sw_q a b c d * v + sw_q a' b' c' d' * w = sw_q (a * v + a' * w) (b * v + b' * w) (c * v + c' * w) (d * v + d' * w) := by
  unfold sw_q
  rw [sw_lm, sw_lm, sw_lm]
theorem sw_o1 {e o : Nat} (he : e < 256) : e ||| 256 * o = e + 256 * o := by
  have h := Nat.two_pow_add_eq_or_of_lt (i := 8) he o
  have h : 256 * o + e = 256 * o ||| e := h
  rw [Nat.or_comm, ← h, Nat.add_comm]
theorem sw_qor {a b c d a' b' c' d' : Nat} (ha : a < 256) (hb : b < 256) (hc : c < 256) (hd : d < 256) (ha' : a' < 256) (hb' : b' < 256) (hc' : c' < 256) : sw_q a b c d ||| sw_q a' b' c' d' * 256 = sw_q (a + 256 * a') (b + 256 * b') (c + 256 * c') (d + 256 * d') := by
  have e : sw_q a' b' c' d' * 256 = sw_q (256 * a') (256 * b') (256 * c') (256 * d') := by
    unfold sw_q
    omega
  rw [e]
  unfold sw_q
  rw [sw_or (by omega) (by omega), sw_or (by omega) (by omega), sw_or (by omega) (by omega), sw_o1 ha, sw_o1 hb, sw_o1 hc, sw_o1 hd]
theorem sw_b {a b w : Nat} (ha : a < 256) (hb : b < 256) (hw : w ≤ 256) : a * (256 - w) + b * w < 65536 := by
  obtain ⟨v, hv⟩ : ∃ v, v = 256 - w := ⟨_, rfl⟩
  rw [← hv]
  have h1 := Nat.mul_le_mul_right v (show a ≤ 255 by omega)
  have h2 := Nat.mul_le_mul_right w (show b ≤ 255 by omega)
  generalize a * v = p at h1
  generalize b * w = q at h2
  omega
/-- the mean of two bytes with weights 256 - w and w -/
def sw_t (a b w : Nat) : Nat := (a * (256 - w) + b * w) / 256
theorem sw_t_lt {a b w : Nat} (ha : a < 256) (hb : b < 256) (hw : w ≤ 256) : sw_t a b w < 256 := by
  have h := sw_b ha hb hw
  unfold sw_t
  omega
/-- the reference's word after j bytes -/
def sw_y (n m w : Nat) : Nat → Nat
  | 0 => 0
  | j + 1 => sw_y n m w j + sw_t (n / 2 ^ (8 * j) % 256) (m / 2 ^ (8 * j) % 256) w * 2 ^ (8 * j)
theorem sw_p8 (j : Nat) : 2 ^ (8 * (j + 1)) = 256 * 2 ^ (8 * j) := by
  rw [Nat.mul_succ, Nat.pow_add, Nat.mul_comm]
theorem sw_y_lt {n m w : Nat} (hw : w ≤ 256) : ∀ j, sw_y n m w j < 2 ^ (8 * j) := by
  intro j
  induction j with
  | zero => exact Nat.one_pos
  | succ j ih =>
    rw [sw_p8]
    unfold sw_y
    have ht := sw_t_lt (a := n / 2 ^ (8 * j) % 256) (b := m / 2 ^ (8 * j) % 256) (Nat.mod_lt _ (by decide)) (Nat.mod_lt _ (by decide)) hw
    have h := Nat.mul_le_mul_right (2 ^ (8 * j)) (Nat.le_of_lt_succ ht)
    generalize sw_t (n / 2 ^ (8 * j) % 256) (m / 2 ^ (8 * j) % 256) w * 2 ^ (8 * j) = z at h
    generalize 2 ^ (8 * j) = p at h ih
    generalize sw_y n m w j = y at ih
    have h : z ≤ 255 * p := h
    omega
/-- the component's word, by lanes -/
def sw_x (a b c d a' b' c' d' w : Nat) : Nat := sw_q (sw_t (a % 256) (a' % 256) w + 256 * sw_t (a / 256) (a' / 256) w) (sw_t (b % 256) (b' % 256) w + 256 * sw_t (b / 256) (b' / 256) w) (sw_t (c % 256) (c' % 256) w + 256 * sw_t (c / 256) (c' / 256) w) (sw_t (d % 256) (d' % 256) w + 256 * sw_t (d / 256) (d' / 256) w)
theorem sw_dig {a b c d : Nat} (ha : a < 65536) (hb : b < 65536) (hc : c < 65536) (hd : d < 65536) : (sw_q a b c d / 2 ^ 0 % 256 = a % 256 ∧ sw_q a b c d / 2 ^ 8 % 256 = a / 256) ∧ (sw_q a b c d / 2 ^ 16 % 256 = b % 256 ∧ sw_q a b c d / 2 ^ 24 % 256 = b / 256) ∧ (sw_q a b c d / 2 ^ 32 % 256 = c % 256 ∧ sw_q a b c d / 2 ^ 40 % 256 = c / 256) ∧ (sw_q a b c d / 2 ^ 48 % 256 = d % 256 ∧ sw_q a b c d / 2 ^ 56 % 256 = d / 256) := by
  unfold sw_q
  refine ⟨⟨?_, ?_⟩, ⟨?_, ?_⟩, ⟨?_, ?_⟩, ?_, ?_⟩ <;> omega
theorem sw_xy {a b c d a' b' c' d' w : Nat} (ha : a < 65536) (hb : b < 65536) (hc : c < 65536) (hd : d < 65536) (ha' : a' < 65536) (hb' : b' < 65536) (hc' : c' < 65536) (hd' : d' < 65536) : sw_x a b c d a' b' c' d' w = sw_y (sw_q a b c d) (sw_q a' b' c' d') w 8 := by
  obtain ⟨⟨p0, p1⟩, ⟨p2, p3⟩, ⟨p4, p5⟩, p6, p7⟩ := sw_dig ha hb hc hd
  obtain ⟨⟨q0, q1⟩, ⟨q2, q3⟩, ⟨q4, q5⟩, q6, q7⟩ := sw_dig ha' hb' hc' hd'
  simp only [sw_y, Nat.reduceMul]
  rw [p0, p1, p2, p3, p4, p5, p6, p7, q0, q1, q2, q3, q4, q5, q6, q7]
  unfold sw_x
  generalize sw_t (a % 256) (a' % 256) w = t0
  generalize sw_t (a / 256) (a' / 256) w = t1
  generalize sw_t (b % 256) (b' % 256) w = t2
  generalize sw_t (b / 256) (b' / 256) w = t3
  generalize sw_t (c % 256) (c' % 256) w = t4
  generalize sw_t (c / 256) (c' / 256) w = t5
  generalize sw_t (d % 256) (d' % 256) w = t6
  generalize sw_t (d / 256) (d' / 256) w = t7
  unfold sw_q
  omega
theorem sw_of {n : Nat} (h : n < 2 ^ 64) : ∃ a b c d : Nat, (a < 65536 ∧ b < 65536 ∧ c < 65536 ∧ d < 65536) ∧ n = sw_q a b c d := by
  refine ⟨n % 65536, n / 65536 % 65536, n / 4294967296 % 65536, n / 281474976710656, ⟨?_, ?_, ?_, ?_⟩, ?_⟩
  · omega
  · omega
  · omega
  · omega
  · unfold sw_q
    omega
end
section
/-! the two sides of fade, each against the plain numbers -/
theorem sw_LM : (71777214294589695 : Int64) = lN 71777214294589695 := rfl
theorem sw_Lk {a b c d : Nat} (ha : a < 65536) (hb : b < 65536) (hc : c < 65536) (hd : d < 65536) : lN (sw_q a b c d) &&& 71777214294589695 = lN (sw_q (a % 256) (b % 256) (c % 256) (d % 256)) := by
  rw [sw_LM, wb_and (sw_q_lt ha hb hc hd) (by decide), sw_qlo ha hb hc]
theorem sw_s8 {n : Nat} (h : n < 2 ^ 64) : ((lN n).toUInt64 >>> ((8 : Int32).toInt64.toUInt64 &&& Int64.toUInt64 63)).toInt64 = lN (n / 256) := wb_shr (k := 8) h (by decide)
theorem sw_l8 (n : Nat) : lN n <<< ((8 : Int32).toInt64 &&& 63) = lN (n * 256) := wb_shl n (k := 8) (by decide)
theorem sw_Lh {a b c d : Nat} (ha : a < 65536) (hb : b < 65536) (hc : c < 65536) (hd : d < 65536) : ((lN (sw_q a b c d)).toUInt64 >>> ((8 : Int32).toInt64.toUInt64 &&& Int64.toUInt64 63)).toInt64 &&& 71777214294589695 = lN (sw_q (a / 256) (b / 256) (c / 256) (d / 256)) := by
  have h := sw_q_lt ha hb hc hd
  rw [sw_s8 h, sw_LM, wb_and (Nat.lt_of_le_of_lt (Nat.div_le_self _ _) h) (by decide), sw_qhi ha hb hc hd]
theorem sw_Lm (a b c d a' b' c' d' v w : Nat) : lN (sw_q a b c d) * lN v + lN (sw_q a' b' c' d') * lN w = lN (sw_q (a * v + a' * w) (b * v + b' * w) (c * v + c' * w) (d * v + d' * w)) := by
  rw [lN_mul, lN_mul, lN_add, sw_qmul]
theorem sw_Lt {a b c d a' b' c' d' w : Nat} (hw : w ≤ 256) (ha : a < 256) (hb : b < 256) (hc : c < 256) (hd : d < 256) (ha' : a' < 256) (hb' : b' < 256) (hc' : c' < 256) (hd' : d' < 256) : ((lN (sw_q a b c d) * lN (256 - w) + lN (sw_q a' b' c' d') * (nI w).toInt64).toUInt64 >>> ((8 : Int32).toInt64.toUInt64 &&& Int64.toUInt64 63)).toInt64 &&& 71777214294589695 = lN (sw_q (sw_t a a' w) (sw_t b b' w) (sw_t c c' w) (sw_t d d' w)) := by
  rw [nI_l (by omega), sw_Lm, sw_Lh (sw_b ha ha' hw) (sw_b hb hb' hw) (sw_b hc hc' hw) (sw_b hd hd' hw)]
  rfl
theorem sw_Lo {a b c d a' b' c' d' : Nat} (ha : a < 256) (hb : b < 256) (hc : c < 256) (hd : d < 256) (ha' : a' < 256) (hb' : b' < 256) (hc' : c' < 256) (hd' : d' < 256) : lN (sw_q a b c d) ||| (lN (sw_q a' b' c' d') <<< ((8 : Int32).toInt64 &&& 63)) = lN (sw_q (a + 256 * a') (b + 256 * b') (c + 256 * c') (d + 256 * d')) := by
  have h : sw_q a' b' c' d' * 256 < 2 ^ 64 := by
    unfold sw_q
    omega
  rw [sw_l8, wb_or (sw_q_lt (by omega) (by omega) (by omega) (by omega)) h, sw_qor ha hb hc hd ha' hb' hc']
theorem sw_X {post : Int64 → SX → Prop} {u : SX} {i a b c d a' b' c' d' w : Nat} (hi : i < 4) (hw : w ≤ 256) (ha : a < 65536) (hb : b < 65536) (hc : c < 65536) (hd : d < 65536) (ha' : a' < 65536) (hb' : b' < 65536) (hc' : c' < 65536) (hd' : d' < 65536) (hu : u i = lN (sw_q a b c d))
    (h : post (lN (sw_x a b c d a' b' c' d' w)) (vp_updL u i (lN (sw_x a b c d a' b' c' d' w)))) : wX_fade_36 post (nI i) (lN (sw_q a' b' c' d')) (nI w) u := by
  have hI : vp_in (nI i) 4 := vp_in_nI hi (by decide)
  have hC : (nI i).toNatClampNeg = i := nI_clamp (by omega)
  have m1 : ∀ x : Nat, x % 256 < 256 := fun x => Nat.mod_lt _ (by decide)
  have m2 : ∀ {x : Nat}, x < 65536 → x / 256 < 256 := fun h => by omega
  have e1 : 256 - (nI w).toInt64 = lN (256 - w) := by
    rw [nI_l (by omega)]
    exact lN_sub (a := 256) hw
  have e2 : u (nI i).toNatClampNeg = lN (sw_q a b c d) := by rw [hC, hu]
  have e3 := sw_Lt (w := w) hw (m1 a) (m1 b) (m1 c) (m1 d) (m1 a') (m1 b') (m1 c') (m1 d')
  have e4 := sw_Lt (w := w) hw (m2 ha) (m2 hb) (m2 hc) (m2 hd) (m2 ha') (m2 hb') (m2 hc') (m2 hd')
  have e5 := sw_Lo (sw_t_lt (m1 a) (m1 a') hw) (sw_t_lt (m1 b) (m1 b') hw) (sw_t_lt (m1 c) (m1 c') hw) (sw_t_lt (m1 d) (m1 d') hw) (sw_t_lt (m2 ha) (m2 ha') hw) (sw_t_lt (m2 hb) (m2 hb') hw) (sw_t_lt (m2 hc) (m2 hc') hw) (sw_t_lt (m2 hd) (m2 hd') hw)
  unfold wX_fade_36
  refine nm_r e1 ⟨hI, nm_r e2 (nm_r (sw_Lk ha hb hc hd) (nm_r (sw_Lh ha hb hc hd) (nm_r (sw_Lk ha' hb' hc' hd') (nm_r (sw_Lh ha' hb' hc' hd') (nm_r e3 (nm_r e4 (nm_r e5 ⟨hI, ?_⟩)))))))⟩
  rw [hC]
  exact nm_e h
theorem sw_Y {post : Int64 → SY → Prop} {v : SY} {i n m w : Nat} (hi : i < 4) (hw : w ≤ 256) (hn : n < 2 ^ 64) (hm : m < 2 ^ 64) (hv : v i = lN n) (h : post (lN (sw_y n m w 8)) (vp_updL v i (lN (sw_y n m w 8)))) :
    ∀ d j : Nat, j + d = 8 → wY_fade_38 post (nI i) (lN m) (nI w) v (d + 1) (lN (sw_y n m w j)) (nI (8 * j)) := by
  have hI : vp_in (nI i) 4 := vp_in_nI hi (by decide)
  have hC : (nI i).toNatClampNeg = i := nI_clamp (by omega)
  intro d
  induction d with
  | zero =>
    intro j hj
    have hj : j = 8 := by omega
    subst hj
    refine br_t (by decide) ⟨hI, ?_⟩
    rw [hC]
    exact nm_e h
  | succ d ih =>
    intro j hj
    have h8 : 8 * j < 64 := by omega
    have h64 : ¬ (64 : Int32) ≤ nI (8 * j) := nI_ge (b := 64) h8 (by decide)
    have e1 : ((v (nI i).toNatClampNeg).toUInt64 >>> ((nI (8 * j)).toInt64.toUInt64 &&& Int64.toUInt64 63)).toInt64 &&& 255 = lN (n / 2 ^ (8 * j) % 256) := by
      rw [hC, hv, wb_shr hn h8]
      exact wb_mask (k := 8) (Nat.lt_of_le_of_lt (Nat.div_le_self _ _) hn) (by decide)
    have e2 : ((lN m).toUInt64 >>> ((nI (8 * j)).toInt64.toUInt64 &&& Int64.toUInt64 63)).toInt64 &&& 255 = lN (m / 2 ^ (8 * j) % 256) := by
      rw [wb_shr hm h8]
      exact wb_mask (k := 8) (Nat.lt_of_le_of_lt (Nat.div_le_self _ _) hm) (by decide)
    have hA : n / 2 ^ (8 * j) % 256 < 256 := Nat.mod_lt _ (by decide)
    have hB : m / 2 ^ (8 * j) % 256 < 256 := Nat.mod_lt _ (by decide)
    have e3 : lN (sw_y n m w j) ||| ((((lN (n / 2 ^ (8 * j) % 256) * (256 - nI w).toInt64) + (lN (m / 2 ^ (8 * j) % 256) * (nI w).toInt64)).toUInt64 >>> ((8 : Int32).toInt64.toUInt64 &&& Int64.toUInt64 63)).toInt64 <<< ((nI (8 * j)).toInt64 &&& 63)) = lN (sw_y n m w (j + 1)) := by
      have s1 : (256 : Int32) - nI w = nI (256 - w) := pk_sub (a := 256) hw
      have s2 := sw_b hA hB hw
      have s3 : sw_y n m w (j + 1) < 2 ^ (8 * (j + 1)) := sw_y_lt hw (j + 1)
      have s4 : 2 ^ (8 * (j + 1)) ≤ 2 ^ 64 := Nat.pow_le_pow_right (by decide) (by omega)
      rw [s1, nI_l (by omega), nI_l (by omega), lN_mul, lN_mul, lN_add, sw_s8 (by omega), wb_shl _ h8]
      exact g_or' (k := 8 * j) rfl (sw_y_lt hw j) (Nat.lt_of_lt_of_le s3 s4)
    have e4 : nI (8 * j) + 8 = nI (8 * (j + 1)) := nI_add (8 * j) 8
    exact br_f h64 ⟨hI, nm_r e1 (nm_r e2 (nm_r e3 (nm_r e4 (ih (j + 1) (by omega)))))⟩
/-- the weight, clamped to 0 .. 256: one number for both sides -/
theorem sw_W (v1 : Int32) (a1 : Int64) (v4 : Int32) (h0 : ¬ v1 < 0) (h3 : v1 ≤ 3) : ∃ w : Nat, w ≤ 256 ∧ (∀ (post : Int64 → SX → Prop) (u : SX), wX_fade_36 post v1 a1 (nI w) u → wpX_fade post u v1 a1 v4) ∧ (∀ (post : Int64 → SY → Prop) (v : SY), (∃ n : Nat, wY_fade_38 post v1 a1 (nI w) v n 0 0) → wpY_fade post v v1 a1 v4) := by
  by_cases hz : 0 ≤ v4
  · by_cases hl : v4 ≤ 256
    · obtain ⟨w, hw, rfl⟩ := nI_of2 (M := 256) (n := 256) (by decide) (Int32.not_lt.mpr hz) hl
      exact ⟨w, hw, fun post u h => br_f h0 (br_t h3 (br_t hz (br_t hl h))), fun post v h => br_f h0 (br_t h3 (br_t hz (br_t hl h)))⟩
    · exact ⟨256, by decide, fun post u h => br_f h0 (br_t h3 (br_t hz (br_f hl h))), fun post v h => br_f h0 (br_t h3 (br_t hz (br_f hl h)))⟩
  · have hl : (0 : Int32) ≤ 256 := by decide
    exact ⟨0, by decide, fun post u h => br_f h0 (br_t h3 (br_f hz (br_t hl h))), fun post v h => br_f h0 (br_t h3 (br_f hz (br_t hl h)))⟩
end
section
/-! what is owed: the two rows hold the same four words -/
def i_Rel (k : Nat) (u : SX) (v : SY) : Prop := u = v
theorem i_up {k : Nat} {u : SX} {v : SY} (h : i_Rel k u v) : i_Rel (k + 5) u v := h
theorem i_vc0 : wpX_init (fun u => wpY_init (fun v => i_Rel 0 u v)) := rfl
theorem i_vc_put {k : Nat} {u : SX} {v : SY} (I : i_Rel k u v) (hk : k + 5 ≤ 2560) (v1 : Int32) (v2 : Int32) (v3 : Int32) : wpX_put (fun r u' => wpY_put (fun r' v' => r' = r ∧ i_Rel (k + 5) u' v') v v1 v2 v3) u v1 v2 v3 := by
  cases I
  by_cases h0 : v1 < 0
  · exact br_t h0 (br_t h0 ⟨rfl, rfl⟩)
  · by_cases h3 : v1 ≤ 3
    · have hi : vp_in v1 4 := by
        obtain ⟨j, hj, rfl⟩ := nI_of2 (M := 3) (n := 3) (by decide) h0 h3
        exact vp_in_nI (by omega) (by decide)
      exact br_f h0 (br_t h3 ⟨hi, fun a ea => br_f h0 (br_t h3 ⟨hi, fun b eb => ⟨rfl, ea.trans eb.symm⟩⟩)⟩)
    · exact br_f h0 (br_f h3 (br_f h0 (br_f h3 ⟨rfl, rfl⟩)))
theorem i_vc_fade {k : Nat} {u : SX} {v : SY} (I : i_Rel k u v) (hk : k + 5 ≤ 2560) (v1 : Int32) (a1 : Int64) (v4 : Int32) : wpX_fade (fun r u' => wpY_fade (fun r' v' => r' = r ∧ i_Rel (k + 5) u' v') v v1 a1 v4) u v1 a1 v4 := by
  cases I
  by_cases h0 : v1 < 0
  · exact br_t h0 (br_t h0 ⟨rfl, rfl⟩)
  · by_cases h3 : v1 ≤ 3
    · obtain ⟨w, hw, hX, hY⟩ := sw_W v1 a1 v4 h0 h3
      obtain ⟨i, hi, rfl⟩ := nI_of2 (M := 3) (n := 3) (by decide) h0 h3
      have hi : i < 4 := by omega
      obtain ⟨n, hn, hu⟩ := wb_of (u i)
      obtain ⟨m, hm, rfl⟩ := wb_of a1
      obtain ⟨a, b, c, d, ⟨ha, hb, hc, hd⟩, rfl⟩ := sw_of hn
      obtain ⟨a', b', c', d', ⟨ha', hb', hc', hd'⟩, rfl⟩ := sw_of hm
      refine hX _ _ (sw_X hi hw ha hb hc hd ha' hb' hc' hd' hu ?_)
      rw [sw_xy ha hb hc hd ha' hb' hc' hd']
      refine hY _ _ ⟨9, ?_⟩
      exact sw_Y hi hw hn hm hu ⟨rfl, rfl⟩ 8 0 rfl
    · exact br_f h0 (br_f h3 (br_f h0 (br_f h3 ⟨rfl, rfl⟩)))
theorem sw_half : ∀ j, j < 8 → 0 ≤ (nI j >>> ((1 : Int32) &&& 31)).toInt ∧ (nI j >>> ((1 : Int32) &&& 31)).toInt < (4 : Nat) := by decide +kernel
theorem i_vc_pixel {k : Nat} {u : SX} {v : SY} (I : i_Rel k u v) (hk : k + 5 ≤ 2560) (v1 : Int32) : wpX_pixel (fun r => wpY_pixel (fun r' => r' = r ∧ i_Rel (k + 5) u v) v v1) u v1 := by
  cases I
  by_cases h0 : v1 < 0
  · exact br_t h0 (br_t h0 ⟨rfl, rfl⟩)
  · by_cases h7 : v1 ≤ 7
    · have hi : vp_in (v1 >>> ((1 : Int32) &&& 31)) 4 := by
        obtain ⟨j, hj, rfl⟩ := nI_of2 (M := 7) (n := 7) (by decide) h0 h7
        exact vp_in_iff.mpr (sw_half j (by omega))
      by_cases hb : (v1 &&& 1) = 0
      · exact br_f h0 (br_t h7 ⟨hi, fun c ec => br_t hb (br_f h0 (br_t h7 ⟨hi, fun d ed => br_t hb ⟨by rw [ed, ec], rfl⟩⟩))⟩)
      · exact br_f h0 (br_t h7 ⟨hi, fun c ec => br_f hb (br_f h0 (br_t h7 ⟨hi, fun d ed => br_f hb ⟨by rw [ed, ec], rfl⟩⟩))⟩)
    · exact br_f h0 (br_f h7 (br_f h0 (br_f h7 ⟨rfl, rfl⟩)))
end
