section
/-! ===== the register as an unsigned number (rows uN .. uN_or: starting text, kit/rows/BITS.to-paste.lean.txt) ===== -/
def uN (x : Int64) : Nat := x.toUInt64.toNat
theorem uN_lt (x : Int64) : uN x < 18446744073709551616 := x.toUInt64.toNat_lt
theorem uN_inj {x y : Int64} (h : uN x = uN y) : x = y := congrArg UInt64.toInt64 (UInt64.toNat_inj.mp h)
theorem uN_add (x y : Int64) : uN (x + y) = (uN x + uN y) % 18446744073709551616 := by
  show (x.toUInt64 + y.toUInt64).toNat = _
  exact UInt64.toNat_add _ _
theorem uN_mul (x y : Int64) : uN (x * y) = (uN x * uN y) % 18446744073709551616 := by
  show (x.toUInt64 * y.toUInt64).toNat = _
  exact UInt64.toNat_mul _ _
theorem uN_shl (x : Int64) : uN (x <<< ((1 : Int32).toInt64 &&& 63)) = (2 * uN x) % 18446744073709551616 := by
  have h : (((1 : Int32).toInt64 &&& 63).toBitVec.smod 64).toNat = 1 := by decide
  show (x.toBitVec <<< (((1 : Int32).toInt64 &&& 63).toBitVec.smod 64).toNat).toNat = _
  rw [h, BitVec.toNat_shiftLeft, Nat.shiftLeft_eq, Nat.mul_comm]
  rfl
theorem uN_shr (x : Int64) (s : UInt64) : uN (x.toUInt64 >>> s).toInt64 = uN x / 2 ^ (s.toNat % 64) := by
  show (x.toUInt64 >>> s).toNat = _
  rw [UInt64.toNat_shiftRight, Nat.shiftRight_eq_div_pow]
  rfl
theorem uN_s32 (x : Int64) : uN (x.toUInt64 >>> ((32 : Int32).toInt64.toUInt64 &&& Int64.toUInt64 63)).toInt64 = uN x / 4294967296 := by
  have h : ((32 : Int32).toInt64.toUInt64 &&& Int64.toUInt64 63).toNat % 64 = 32 := by decide
  rw [uN_shr, h]
theorem uN_or {x y : Int64} (hy : uN y < 2) : uN ((x <<< ((1 : Int32).toInt64 &&& 63)) ||| y) = (2 * uN x) % 18446744073709551616 + uN y := by
  have h1 : uN ((x <<< ((1 : Int32).toInt64 &&& 63)) ||| y) = uN (x <<< ((1 : Int32).toInt64 &&& 63)) ||| uN y := UInt64.toNat_or _ _
  have h2 : (2 * uN x) % 18446744073709551616 = 2 ^ 1 * (uN x % 9223372036854775808) := by omega
  rw [h1, uN_shl, h2]
  exact (Nat.two_pow_add_eq_or_of_lt (i := 1) hy _).symm
/-! ===== this claim's own ===== -/
/-- masking to 40 bits is the remainder by 2^40 -/
theorem mr_m40 (x : Int64) : uN (x &&& 1099511627775) = uN x % 1099511627776 := by
  show (x.toUInt64 &&& Int64.toUInt64 1099511627775).toNat = _
  rw [UInt64.toNat_and]
  exact Nat.and_two_pow_sub_one_eq_mod _ 40
theorem mr_m8 (x : Int64) : uN (x &&& 255) = uN x % 256 := by
  show (x.toUInt64 &&& Int64.toUInt64 255).toNat = _
  rw [UInt64.toNat_and]
  exact Nat.and_two_pow_sub_one_eq_mod _ 8
theorem mr_idem (x : Int64) : (x &&& 1099511627775) &&& 1099511627775 = x &&& 1099511627775 := by
  rw [Int64.and_assoc, Int64.and_self]
theorem mr_z : (0 : Int64) &&& 1099511627775 = 0 := Int64.zero_and
theorem mr_u0 : uN 0 < 2 := by decide
theorem mr_u1 : uN 1 < 2 := by decide
theorem mr_u2 : uN 2 = 2 := by decide
/-- the component's 'times two plus bit' is the reference's 'shift or bit' -/
theorem mr_step (r z : Int64) (hz : uN z < 2) : (r <<< ((1 : Int32).toInt64 &&& 63)) ||| z = r * 2 + z := by
  apply uN_inj
  rw [uN_or hz, uN_add, uN_mul, mr_u2]
  have h := uN_lt r
  omega
/-- a register within 40 bits: its bits from 32 on are within 8 -/
theorem mr_high (r : Int64) (h : r &&& 1099511627775 = r) : ((r.toUInt64 >>> ((32 : Int32).toInt64.toUInt64 &&& Int64.toUInt64 63)).toInt64) &&& 255 = (r.toUInt64 >>> ((32 : Int32).toInt64.toUInt64 &&& Int64.toUInt64 63)).toInt64 := by
  have hl : uN r < 1099511627776 := by
    rw [← h, mr_m40]
    exact Nat.mod_lt _ (by decide)
  apply uN_inj
  rw [mr_m8, uN_s32]
  omega
end
section
/-- the two objects hold the same five values, and the register is within 40 bits -/
def i_Rel (_ : Nat) (u : SX) (v : SY) : Prop := v = u ∧ u.2.2.2.1 &&& 1099511627775 = u.2.2.2.1
theorem i_up {k : Nat} {u : SX} {v : SY} (h : i_Rel k u v) : i_Rel (k + 2) u v := h
theorem i_vc0 (k0 : Int32) : wpX_init (fun u => wpY_init (fun v => i_Rel 1 u v) k0) k0 := by
  by_cases h4 : 4 ≤ k0
  · by_cases h5 : k0 ≤ 10000
    · exact br_t h4 (br_t h5 (br_t h4 (br_t h5 (And.intro rfl mr_z))))
    · exact br_t h4 (br_f h5 (br_t h4 (br_f h5 (And.intro rfl mr_z))))
  · exact br_f h4 (br_t (by decide) (br_f h4 (And.intro rfl mr_z)))
/-- one outcome for both: an answer a and a state w with a masked register, at which either side's continuation gives its walk -/
abbrev MR_out (A : (Int32 → SX → Prop) → Prop) (B : (Int32 → SY → Prop) → Prop) : Prop :=
  ∃ (a : Int32) (w : SX), w.2.2.2.1 &&& 1099511627775 = w.2.2.2.1 ∧ (∀ post : Int32 → SX → Prop, post a w → A post) ∧ (∀ post : Int32 → SY → Prop, post a w → B post)
theorem mr_fit0 : fits .boolean (.int 0) = true := by have h := fits_narrow_boolean 0; rwa [narrow_b0] at h
theorem mr_fit1 : fits .boolean (.int 1) = true := by have h := fits_narrow_boolean 1; rwa [narrow_b1] at h
/-- a bad interval: both reset -/
theorem mr_180 (t m l : Int32) (r : Int64) (c : Int32) : MR_out (fun post => wX_edge_180 post t m l r c) (fun post => wY_edge_167 post t m l r c) :=
  ⟨-1, (t, 1, l, 0, 0), mr_z, fun _ hp => hp, fun _ hp => hp⟩
/-- a bit z shifted in -/
theorem mr_138 (z : Int64) (hz : uN z < 2) (t m l : Int32) (r : Int64) (c : Int32) : MR_out (fun post => wX_edge_138 post z t m l r c) (fun post => wY_edge_138 post z (r <<< ((1 : Int32).toInt64 &&& 63)) t m l r c) := by
  have e : ((r <<< ((1 : Int32).toInt64 &&& 63)) ||| z) &&& 1099511627775 = (r * 2 + z) &&& 1099511627775 := by rw [mr_step r z hz]
  by_cases hc : 40 ≤ c
  · exact ⟨1, (t, m, l, (r * 2 + z) &&& 1099511627775, c), mr_idem _, fun _ hp => nm_e (br_t hc hp), fun _ hp => nm_r e (br_t hc hp)⟩
  · exact ⟨1, (t, m, l, (r * 2 + z) &&& 1099511627775, c + 1), mr_idem _, fun _ hp => nm_e (br_f hc (nm_e hp)), fun _ hp => nm_r e (br_f hc (nm_e hp))⟩
theorem mr_121 (t m l : Int32) (r : Int64) (c : Int32) : MR_out (fun post => wX_edge_121 post t m l r c) (fun post => wY_edge_114 post t m l r c) := by
  by_cases hl : l = 0
  · obtain ⟨a, w, hw, hX, hY⟩ := mr_138 0 mr_u0 t 1 l r c
    exact ⟨a, w, hw, fun post hp => br_t hl (hX post hp), fun post hp => br_t hl (hY post hp)⟩
  · obtain ⟨a, w, hw, hX, hY⟩ := mr_138 1 mr_u1 t 1 l r c
    exact ⟨a, w, hw, fun post hp => br_f hl (hX post hp), fun post hp => br_f hl (hY post hp)⟩
/-- short and mid is behind us: the two tests of the rest agree -/
theorem mr_98 (x3 x4 : Int32) (t m l : Int32) (r : Int64) (c : Int32) (h : x3 = 0 ∨ m = 0) : MR_out (fun post => wX_edge_98 post x3 x4 t m l r c) (fun post => wY_edge_98 post x3 x4 t m l r c) := by
  by_cases h3 : x3 = 0
  · by_cases h4 : x4 = 0
    · obtain ⟨a, w, hw, hX, hY⟩ := mr_180 t m l r c
      exact ⟨a, w, hw, fun post hp => br_t h3 (br_t h4 (hX post hp)), fun post hp => br_t h3 (br_t h4 (hY post hp))⟩
    · by_cases hm : m = 0
      · obtain ⟨a, w, hw, hX, hY⟩ := mr_180 t m l r c
        exact ⟨a, w, hw, fun post hp => br_t h3 (br_f h4 (br_t hm (hX post hp))), fun post hp => br_t h3 (br_f h4 (br_t hm (hY post hp)))⟩
      · obtain ⟨a, w, hw, hX, hY⟩ := mr_121 t m l r c
        exact ⟨a, w, hw, fun post hp => br_t h3 (br_f h4 (br_f hm (hX post hp))), fun post hp => br_t h3 (br_f h4 (br_f hm (hY post hp)))⟩
  · have hm : m = 0 := h.resolve_left h3
    obtain ⟨a, w, hw, hX, hY⟩ := mr_121 t m l r c
    exact ⟨a, w, hw, fun post hp => br_f h3 (br_t hm (hX post hp)), fun post hp => br_f h3 (hY post hp)⟩
theorem mr_77 (x3 x4 z : Int32) (t m l : Int32) (r : Int64) (c : Int32) (hr : r &&& 1099511627775 = r) (hn : narrow .boolean (.int z) = .int z) (hf : fits .boolean (.int z) = true) : MR_out (fun post => wX_edge_77 post x3 x4 z t m l r c) (fun post => wY_edge_77 post x3 x4 z t m l r c) := by
  by_cases h3 : x3 = 0
  · obtain ⟨a, w, hw, hX, hY⟩ := mr_98 x3 x4 t m z r c (Or.inl h3)
    exact ⟨a, w, hw, fun post hp => And.intro hn (And.intro hf (br_t h3 (hX post hp))), fun post hp => And.intro hn (And.intro hf (br_t h3 (hY post hp)))⟩
  · by_cases hm : m = 0
    · obtain ⟨a, w, hw, hX, hY⟩ := mr_98 x3 x4 t m z r c (Or.inr hm)
      exact ⟨a, w, hw, fun post hp => And.intro hn (And.intro hf (br_f h3 (br_t hm (hX post hp)))), fun post hp => And.intro hn (And.intro hf (br_f h3 (br_t hm (hY post hp))))⟩
    · exact ⟨0, (t, 0, z, r, c), hr, fun post hp => And.intro hn (And.intro hf (br_f h3 (br_f hm hp))), fun post hp => And.intro hn (And.intro hf (br_f h3 (br_f hm hp)))⟩
theorem mr_62 (x3 z : Int32) (t m l : Int32) (r : Int64) (c : Int32) (hr : r &&& 1099511627775 = r) : MR_out (fun post => wX_edge_62 post x3 z t m l r c) (fun post => wY_edge_62 post x3 z t m l r c) := by
  by_cases hl : l = 0
  · obtain ⟨a, w, hw, hX, hY⟩ := mr_77 x3 z 1 t m l r c hr narrow_b1 mr_fit1
    exact ⟨a, w, hw, fun post hp => br_t hl (hX post hp), fun post hp => br_t hl (hY post hp)⟩
  · obtain ⟨a, w, hw, hX, hY⟩ := mr_77 x3 z 0 t m l r c hr narrow_b0 mr_fit0
    exact ⟨a, w, hw, fun post hp => br_f hl (hX post hp), fun post hp => br_f hl (hY post hp)⟩
/-- is it long? -/
theorem mr_32 (x1 x2 z : Int32) (t m l : Int32) (r : Int64) (c : Int32) (hr : r &&& 1099511627775 = r) : MR_out (fun post => wX_edge_32 post x1 x2 z t m l r c) (fun post => wY_edge_32 post x1 x2 z t m l r c) := by
  by_cases ha : x1 < ((2 * t) - x2)
  · obtain ⟨a, w, hw, hX, hY⟩ := mr_62 z 0 t m l r c hr
    exact ⟨a, w, hw, fun post hp => br_t ha (hX post hp), fun post hp => br_t ha (hY post hp)⟩
  · by_cases hb : ((2 * t) + x2) < x1
    · obtain ⟨a, w, hw, hX, hY⟩ := mr_62 z 0 t m l r c hr
      exact ⟨a, w, hw, fun post hp => br_f ha (br_t hb (hX post hp)), fun post hp => br_f ha (br_t hb (hY post hp))⟩
    · obtain ⟨a, w, hw, hX, hY⟩ := mr_62 z 1 t m l r c hr
      exact ⟨a, w, hw, fun post hp => br_f ha (br_f hb (hX post hp)), fun post hp => br_f ha (br_f hb (hY post hp))⟩
theorem mr_4 : ¬ (4 : Int32) = 0 := by decide
/-- is it short? -/
theorem mr_edge (p : Int32) (t m l : Int32) (r : Int64) (c : Int32) (hr : r &&& 1099511627775 = r) : MR_out (fun post => wpX_edge post (t, m, l, r, c) p) (fun post => wpY_edge post (t, m, l, r, c) p) := by
  by_cases ha : p < (t - t / 4)
  · obtain ⟨a, w, hw, hX, hY⟩ := mr_32 p (t / 4) 0 t m l r c hr
    exact ⟨a, w, hw, fun post hp => And.intro mr_4 (nm_e (br_t ha (hX post hp))), fun post hp => And.intro mr_4 (nm_e (br_t ha (hY post hp)))⟩
  · by_cases hb : (t + t / 4) < p
    · obtain ⟨a, w, hw, hX, hY⟩ := mr_32 p (t / 4) 0 t m l r c hr
      exact ⟨a, w, hw, fun post hp => And.intro mr_4 (nm_e (br_f ha (br_t hb (hX post hp)))), fun post hp => And.intro mr_4 (nm_e (br_f ha (br_t hb (hY post hp))))⟩
    · obtain ⟨a, w, hw, hX, hY⟩ := mr_32 p (t / 4) 1 t m l r c hr
      exact ⟨a, w, hw, fun post hp => And.intro mr_4 (nm_e (br_f ha (br_f hb (hX post hp)))), fun post hp => And.intro mr_4 (nm_e (br_f ha (br_f hb (hY post hp))))⟩
theorem i_vc_edge {k : Nat} {u : SX} {v : SY} (I : i_Rel k u v) (hk : k + 2 ≤ 1025) (v1 : Int32) : wpX_edge (fun r u' => wpY_edge (fun r' v' => r' = r ∧ i_Rel (k + 2) u' v') v v1) u v1 := by
  rcases u with ⟨t, m, l, r, c⟩
  obtain ⟨rfl, hr⟩ := I
  obtain ⟨a, w, hw, hX, hY⟩ := mr_edge v1 t m l r c hr
  exact hX _ (hY _ ⟨rfl, And.intro rfl hw⟩)
theorem i_vc_bits {k : Nat} {u : SX} {v : SY} (I : i_Rel k u v) (hk : k + 2 ≤ 1025) : wpX_bits (fun r => wpY_bits (fun r' => r' = r ∧ i_Rel (k + 2) u v) v) u := by
  rcases u with ⟨t, m, l, r, c⟩
  obtain ⟨rfl, hr⟩ := I
  exact And.intro rfl (And.intro rfl hr)
theorem i_vc_take {k : Nat} {u : SX} {v : SY} (I : i_Rel k u v) (hk : k + 2 ≤ 1025) : wpX_take (fun r u' => wpY_take (fun r' v' => r' = r ∧ i_Rel (k + 2) u' v') v) u := by
  rcases u with ⟨t, m, l, r, c⟩
  obtain ⟨rfl, hr⟩ := I
  exact And.intro rfl (And.intro rfl mr_z)
theorem i_vc_high {k : Nat} {u : SX} {v : SY} (I : i_Rel k u v) (hk : k + 2 ≤ 1025) : wpX_high (fun r => wpY_high (fun r' => r' = r ∧ i_Rel (k + 2) u v) v) u := by
  rcases u with ⟨t, m, l, r, c⟩
  obtain ⟨rfl, hr⟩ := I
  exact And.intro (congrArg Int64.toInt32 (mr_high r hr).symm) (And.intro rfl hr)
end
