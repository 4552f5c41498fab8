section CSBB
variable {χ : xx_S} {Q : Int32 → xx_S → Prop}
/-! bits counted, byte by byte -/
theorem cb_1 : ∀ c, c < 256 → ∀ q, q < 2 → ((c / 2 + 128 * q) &&& 85) = (c / 2 &&& 85) ∧ (c / 2 &&& 85) ≤ c ∧ c - (c / 2 &&& 85) < 256 := by decide +kernel
theorem cb_2 : ∀ c, c < 256 → ∀ q, q < 4 → ((c / 4 + 64 * q) &&& 51) = (c / 4 &&& 51) := by decide +kernel
def cb_s (c : Nat) : Nat := (c - (c / 2 &&& 85))
def cb_t (c : Nat) : Nat := (cb_s c &&& 51) + (cb_s c / 4 &&& 51)
theorem cb_t_le : ∀ c, c < 256 → cb_t c ≤ 68 ∧ cb_t c % 16 ≤ 4 ∧ cb_s c < 256 ∧ (cb_s c &&& 51) < 256 ∧ (cb_s c / 4 &&& 51) < 256 ∧ (cb_t c + cb_t c / 16) % 16 = pp_pc 8 c ∧ pp_pc 8 c ≤ 8 := by decide +kernel
theorem cb_and (a b q r : Nat) (ha : a < 256) (hb : b < 256) : (a + 256 * q) &&& (b + 256 * r) = (a &&& b) + 256 * (q &&& r) := by
  have h1 : a + 256 * q = 2 ^ 8 * q + a := by omega
  have h2 : b + 256 * r = 2 ^ 8 * r + b := by omega
  have hab : a &&& b < 2 ^ 8 := Nat.lt_of_le_of_lt Nat.and_le_left ha
  have h3 : (a &&& b) + 256 * (q &&& r) = 2 ^ 8 * (q &&& r) + (a &&& b) := by omega
  rw [h1, h2, h3]
  refine Nat.eq_of_testBit_eq (fun i => ?_)
  rw [Nat.testBit_and, Nat.testBit_two_pow_mul_add q (show a < 2 ^ 8 from ha), Nat.testBit_two_pow_mul_add r (show b < 2 ^ 8 from hb), Nat.testBit_two_pow_mul_add (q &&& r) hab]
  split
  · rw [Nat.testBit_and]
  · rw [Nat.testBit_and]
theorem cb_pc8 (f : Nat) : ∀ (k b : Nat), pp_pc (k + f) b = pp_pc k (b % 2 ^ k) + pp_pc f (b / 2 ^ k) := by
  intro k
  induction k with
  | zero =>
    intro b
    rw [Nat.zero_add, Nat.pow_zero, Nat.div_one]
    show pp_pc f b = 0 + pp_pc f b
    omega
  | succ k ih =>
    intro b
    rw [show k + 1 + f = (k + f) + 1 by omega]
    show b % 2 + pp_pc (k + f) (b / 2) = (b % 2 ^ (k + 1)) % 2 + pp_pc k (b % 2 ^ (k + 1) / 2) + pp_pc f (b / 2 ^ (k + 1))
    rw [ih (b / 2), Nat.div_div_eq_div_mul, Nat.pow_succ, Nat.mul_comm (2 ^ k) 2, Nat.mod_mul_right_mod, Nat.mod_mul_right_div_self]
    omega
theorem cb_pc0 : ∀ f, pp_pc f 0 = 0 := by
  intro f
  induction f with
  | zero => rfl
  | succ f ih => show 0 % 2 + pp_pc f (0 / 2) = 0; rw [Nat.zero_div, ih]
theorem cb_all (x y z : Nat) (hx : x < 256) (hy : y < 256) (hz : z < 256) : pp_pc 31 (x + 256 * (y + 256 * z)) = pp_pc 8 x + pp_pc 8 y + pp_pc 8 z := by
  rw [show (31 : Nat) = 8 + 23 from rfl, cb_pc8, show (2 : Nat) ^ 8 = 256 from rfl, show (23 : Nat) = 8 + 15 from rfl, cb_pc8, show (2 : Nat) ^ 8 = 256 from rfl, show (15 : Nat) = 8 + 7 from rfl, cb_pc8, show (2 : Nat) ^ 8 = 256 from rfl]
  rw [show (x + 256 * (y + 256 * z)) % 256 = x by omega, show (x + 256 * (y + 256 * z)) / 256 = y + 256 * z by omega, show (y + 256 * z) % 256 = y by omega, show (y + 256 * z) / 256 = z by omega, show z % 256 = z by omega, show z / 256 = 0 by omega, cb_pc0]
  omega
/-- the three steps, over bytes -/
theorem cb_step1 (c q M : Nat) (hc : c < 256) : (c + 256 * q) / 2 &&& (85 + 256 * M) = (c / 2 &&& 85) + 256 * (q / 2 &&& M) := by
  have h := cb_1 c hc (q % 2) (by omega)
  rw [show (c + 256 * q) / 2 = (c / 2 + 128 * (q % 2)) + 256 * (q / 2) by omega, cb_and _ _ _ _ (by omega) (by decide), h.1]
theorem cb_step2 (c q M : Nat) (hc : c < 256) : (c + 256 * q) / 4 &&& (51 + 256 * M) = (c / 4 &&& 51) + 256 * (q / 4 &&& M) := by
  have h := cb_2 c hc (q % 4) (by omega)
  rw [show (c + 256 * q) / 4 = (c / 4 + 64 * (q % 4)) + 256 * (q / 4) by omega, cb_and _ _ _ _ (by omega) (by decide), h]
theorem cb_ush {n k : Nat} (hn : n < 2 ^ 31) (hk : k < 32) : ((nI n).toUInt32 >>> ((nI k).toUInt32 &&& Int32.toUInt32 31)).toInt32 = nI (n / 2 ^ k) := by
  have hs : ∀ k, k < 32 → (((nI k).toUInt32 &&& Int32.toUInt32 31).toBitVec % 32).toNat = k := by decide +kernel
  exact pk_ushrN (by omega) (nI k) k (hs k hk)
def cb_1i (a0 : Int32) : Int32 := a0 - (((a0).toUInt32 >>> (((1 : Int32)).toUInt32 &&& Int32.toUInt32 31)).toInt32 &&& (1431655765 : Int32))
def cb_2i (a0 : Int32) : Int32 := (a0 &&& (858993459 : Int32)) + (((a0).toUInt32 >>> (((2 : Int32)).toUInt32 &&& Int32.toUInt32 31)).toInt32 &&& (858993459 : Int32))
def cb_3i (a0 : Int32) : Int32 := (a0 + ((a0).toUInt32 >>> (((4 : Int32)).toUInt32 &&& Int32.toUInt32 31)).toInt32) &&& (252645135 : Int32)
def cb_4i (a0 : Int32) : Int32 := a0 + ((a0).toUInt32 >>> (((8 : Int32)).toUInt32 &&& Int32.toUInt32 31)).toInt32
def cb_5i (a0 : Int32) : Int32 := (a0 + ((a0).toUInt32 >>> (((16 : Int32)).toUInt32 &&& Int32.toUInt32 31)).toInt32) &&& (63 : Int32)
theorem cb_u (a0 : Int32) : xxw_bitCount a0 χ Q = Q (cb_5i (cb_4i (cb_3i (cb_2i (cb_1i a0))))) χ := rfl
theorem cb_i1 {b : Nat} (hb : b < 2 ^ 31) (h : (b / 2 &&& 1431655765) ≤ b) : cb_1i (nI b) = nI (b - (b / 2 &&& 1431655765)) := by
  unfold cb_1i
  rw [show ((nI b).toUInt32 >>> (((1 : Int32)).toUInt32 &&& Int32.toUInt32 31)).toInt32 = nI (b / 2 ^ 1) from cb_ush (k := 1) (by omega) (by decide), Nat.pow_one, show (1431655765 : Int32) = nI 1431655765 from rfl, nx_and, pk_sub h]
theorem cb_i2 {X : Nat} (hb : X < 2 ^ 31) : cb_2i (nI X) = nI ((X &&& 858993459) + (X / 4 &&& 858993459)) := by
  unfold cb_2i
  rw [show ((nI X).toUInt32 >>> (((2 : Int32)).toUInt32 &&& Int32.toUInt32 31)).toInt32 = nI (X / 2 ^ 2) from cb_ush (k := 2) (by omega) (by decide), show (2 : Nat) ^ 2 = 4 from rfl, show (858993459 : Int32) = nI 858993459 from rfl, nx_and, nx_and, nI_add]
theorem cb_i3 {Y : Nat} (hb : Y < 2 ^ 31) : cb_3i (nI Y) = nI ((Y + Y / 16) &&& 252645135) := by
  unfold cb_3i
  rw [show ((nI Y).toUInt32 >>> (((4 : Int32)).toUInt32 &&& Int32.toUInt32 31)).toInt32 = nI (Y / 2 ^ 4) from cb_ush (k := 4) (by omega) (by decide), show (2 : Nat) ^ 4 = 16 from rfl, show (252645135 : Int32) = nI 252645135 from rfl, nI_add, nx_and]
theorem cb_i4 {P : Nat} (hb : P < 2 ^ 31) : cb_4i (nI P) = nI (P + P / 256) := by
  unfold cb_4i
  rw [show ((nI P).toUInt32 >>> (((8 : Int32)).toUInt32 &&& Int32.toUInt32 31)).toInt32 = nI (P / 2 ^ 8) from cb_ush (k := 8) (by omega) (by decide), show (2 : Nat) ^ 8 = 256 from rfl, nI_add]
theorem cb_i5 {P : Nat} (hb : P < 2 ^ 31) : cb_5i (nI P) = nI ((P + P / 65536) % 64) := by
  have m63 : ∀ n : Nat, n &&& 63 = n % 64 := fun n => Nat.and_two_pow_sub_one_eq_mod n 6
  unfold cb_5i
  rw [show ((nI P).toUInt32 >>> (((16 : Int32)).toUInt32 &&& Int32.toUInt32 31)).toInt32 = nI (P / 2 ^ 16) from cb_ush (k := 16) (by omega) (by decide), show (2 : Nat) ^ 16 = 65536 from rfl, show (63 : Int32) = nI 63 from rfl, nI_add, nx_and, m63]
theorem cs_bitCount {b : Nat} (hb : b < 2 ^ 24) (hq : Q (nI (pp_pc 31 b)) χ) : xxw_bitCount (nI b) χ Q := by
  obtain ⟨x, y, z, hx, hy, hz, e⟩ : ∃ x y z : Nat, x < 256 ∧ y < 256 ∧ z < 256 ∧ b = x + 256 * (y + 256 * z) := ⟨b % 256, b / 256 % 256, b / 65536, by omega, by omega, by omega, by omega⟩
  rw [e, cb_all x y z hx hy hz] at hq
  obtain ⟨x1, x2, x3, x4, x5, x6, x7⟩ := cb_t_le x hx
  obtain ⟨y1, y2, y3, y4, y5, y6, y7⟩ := cb_t_le y hy
  obtain ⟨z1, z2, z3, z4, z5, z6, z7⟩ := cb_t_le z hz
  have s1 : b / 2 &&& 1431655765 = (x / 2 &&& 85) + 256 * ((y / 2 &&& 85) + 256 * (z / 2 &&& 85)) := by
    rw [e, show (1431655765 : Nat) = 85 + 256 * (85 + 256 * (85 + 256 * 85)) from rfl, cb_step1 x _ _ hx, cb_step1 y _ _ hy, show z = z + 256 * 0 from rfl, cb_step1 z _ _ hz, Nat.zero_div, Nat.zero_and]
    simp
  have l1 := (cb_1 x hx 0 (by decide)).2.1
  have l2 := (cb_1 y hy 0 (by decide)).2.1
  have l3 := (cb_1 z hz 0 (by decide)).2.1
  have t1 : b - (b / 2 &&& 1431655765) = cb_s x + 256 * (cb_s y + 256 * cb_s z) := by
    rw [s1, e]
    unfold cb_s
    omega
  have s2 : (cb_s x + 256 * (cb_s y + 256 * cb_s z)) &&& 858993459 = (cb_s x &&& 51) + 256 * ((cb_s y &&& 51) + 256 * (cb_s z &&& 51)) := by
    rw [show (858993459 : Nat) = 51 + 256 * (51 + 256 * (51 + 256 * 51)) from rfl, cb_and _ _ _ _ x3 (by decide), cb_and _ _ _ _ y3 (by decide)]
    have := cb_and (cb_s z) 51 0 (51 : Nat) z3 (by decide)
    rw [Nat.mul_zero, Nat.add_zero, Nat.zero_and, Nat.mul_zero, Nat.add_zero] at this
    rw [this, Nat.add_zero]
  have s3 : (cb_s x + 256 * (cb_s y + 256 * cb_s z)) / 4 &&& 858993459 = (cb_s x / 4 &&& 51) + 256 * ((cb_s y / 4 &&& 51) + 256 * (cb_s z / 4 &&& 51)) := by
    rw [show (858993459 : Nat) = 51 + 256 * (51 + 256 * (51 + 256 * 51)) from rfl, cb_step2 _ _ _ x3, cb_step2 _ _ _ y3]
    have := cb_step2 (cb_s z) 0 (51 : Nat) z3
    rw [Nat.mul_zero, Nat.add_zero, Nat.zero_div, Nat.zero_and, Nat.mul_zero, Nat.add_zero] at this
    rw [this, Nat.add_zero]
  have t2 : (cb_s x &&& 51) + 256 * ((cb_s y &&& 51) + 256 * (cb_s z &&& 51)) + ((cb_s x / 4 &&& 51) + 256 * ((cb_s y / 4 &&& 51) + 256 * (cb_s z / 4 &&& 51))) = cb_t x + 256 * (cb_t y + 256 * cb_t z) := by
    unfold cb_t
    omega
  have s4 : (cb_t x + 256 * (cb_t y + 256 * cb_t z) + (cb_t x + 256 * (cb_t y + 256 * cb_t z)) / 16) &&& 252645135 = pp_pc 8 x + 256 * (pp_pc 8 y + 256 * pp_pc 8 z) := by
    have e4 : cb_t x + 256 * (cb_t y + 256 * cb_t z) + (cb_t x + 256 * (cb_t y + 256 * cb_t z)) / 16 = (cb_t x + cb_t x / 16 + 16 * (cb_t y % 16)) + 256 * ((cb_t y + cb_t y / 16 + 16 * (cb_t z % 16)) + 256 * (cb_t z + cb_t z / 16)) := by omega
    have m15 : ∀ n : Nat, n &&& 15 = n % 16 := fun n => Nat.and_two_pow_sub_one_eq_mod n 4
    rw [e4, show (252645135 : Nat) = 15 + 256 * (15 + 256 * (15 + 256 * 15)) from rfl, cb_and _ _ _ _ (by omega) (by decide), cb_and _ _ _ _ (by omega) (by decide)]
    have := cb_and (cb_t z + cb_t z / 16) 15 0 (15 : Nat) (by omega) (by decide)
    rw [Nat.mul_zero, Nat.add_zero, Nat.zero_and, Nat.mul_zero, Nat.add_zero] at this
    rw [this, m15, m15, m15, show (cb_t x + cb_t x / 16 + 16 * (cb_t y % 16)) % 16 = (cb_t x + cb_t x / 16) % 16 by omega, show (cb_t y + cb_t y / 16 + 16 * (cb_t z % 16)) % 16 = (cb_t y + cb_t y / 16) % 16 by omega, x6, y6, z6, Nat.add_zero]
  have hXl : cb_s x + 256 * (cb_s y + 256 * cb_s z) < 2 ^ 24 := by omega
  have hYl : cb_t x + 256 * (cb_t y + 256 * cb_t z) < 2 ^ 24 := by omega
  have hPl : pp_pc 8 x + 256 * (pp_pc 8 y + 256 * pp_pc 8 z) < 2 ^ 24 := by omega
  rw [cb_u, cb_i1 (by omega) (by rw [s1, e]; omega), t1, cb_i2 (by omega), s2, s3, t2, cb_i3 (by omega), s4, cb_i4 (by omega), cb_i5 (by omega)]
  have fin : ∀ u v w : Nat, u ≤ 8 → v ≤ 8 → w ≤ 8 → (u + 256 * (v + 256 * w) + (u + 256 * (v + 256 * w)) / 256 + (u + 256 * (v + 256 * w) + (u + 256 * (v + 256 * w)) / 256) / 65536) % 64 = u + v + w := by
    intro u v w hu hv hw
    rw [show (u + 256 * (v + 256 * w)) / 256 = v + 256 * w by omega, show (u + 256 * (v + 256 * w) + (v + 256 * w)) / 65536 = w by omega]
    omega
  rw [fin _ _ _ x7 y7 z7]
  exact hq
end CSBB
