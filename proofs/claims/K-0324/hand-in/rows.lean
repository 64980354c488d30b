section
/-! rows of kit/rows/BITS.to-paste.lean.txt (starting text), then this claim's own number rows -/
theorem wb_tb (n : Nat) : (lN n).toBitVec = BitVec.ofNat 64 n := rfl
theorem wb_inj {a b : Int64} (h : a.toBitVec = b.toBitVec) : a = b := Int64.toBitVec_inj.mp h
theorem wb_tn {n : Nat} (h : n < 2 ^ 64) : (lN n).toBitVec.toNat = n := by rw [wb_tb, BitVec.toNat_ofNat, Nat.mod_eq_of_lt h]
theorem wb_of (x : Int64) : ∃ n, n < 2 ^ 64 ∧ x = lN n := ⟨x.toBitVec.toNat, x.toBitVec.isLt, wb_inj (by rw [wb_tb]; simp)⟩
theorem wb_c : ∀ k, k < 64 → ((nI k).toInt64 &&& 63) = lN k := by decide +kernel
theorem wb_sm : ∀ k, k < 64 → (BitVec.ofNat 64 k).smod 64 = BitVec.ofNat 64 k := by decide +kernel
theorem wb_lt2 {a b : Nat} (h : a < b) : 2 ^ a < 2 ^ b := Nat.pow_lt_pow_right (by decide) h
theorem wb_mod (n : Nat) : lN n = lN (n % 2 ^ 64) := wb_inj (by rw [wb_tb, wb_tb]; apply BitVec.eq_of_toNat_eq; rw [BitVec.toNat_ofNat, BitVec.toNat_ofNat, Nat.mod_mod])
theorem wb_shl (n : Nat) {k : Nat} (hk : k < 64) : lN n <<< ((nI k).toInt64 &&& 63) = lN (n * 2 ^ k) := by
  rw [wb_c k hk]
  apply wb_inj
  rw [Int64.toBitVec_shiftLeft, wb_tb, wb_tb, wb_tb, wb_sm k hk]
  apply BitVec.eq_of_toNat_eq
  rw [BitVec.shiftLeft_eq', BitVec.toNat_shiftLeft, BitVec.toNat_ofNat, BitVec.toNat_ofNat, BitVec.toNat_ofNat, Nat.mod_eq_of_lt (show k < 2 ^ 64 by omega), Nat.shiftLeft_eq, Nat.mul_mod, Nat.mod_mod, ← Nat.mul_mod]
theorem wb_and {a b : Nat} (ha : a < 2 ^ 64) (hb : b < 2 ^ 64) : lN a &&& lN b = lN (a &&& b) := by
  apply wb_inj
  rw [Int64.toBitVec_and, wb_tb, wb_tb, wb_tb]
  apply BitVec.eq_of_toNat_eq
  rw [BitVec.toNat_and, BitVec.toNat_ofNat, BitVec.toNat_ofNat, BitVec.toNat_ofNat, Nat.mod_eq_of_lt ha, Nat.mod_eq_of_lt hb, Nat.mod_eq_of_lt (Nat.and_lt_two_pow _ hb)]
theorem wb_mask {n k : Nat} (hn : n < 2 ^ 64) (hk : k < 64) : lN n &&& lN (2 ^ k - 1) = lN (n % 2 ^ k) := by
  rw [wb_and hn (by have := wb_lt2 hk; omega), Nat.and_two_pow_sub_one_eq_mod]
theorem u_tn {n : Nat} (h : n < 2 ^ 64) : (UInt64.ofNat n).toNat = n := Nat.mod_eq_of_lt h
theorem g_or {k p a b : Nat} (hp : 2 ^ k = p) (ha : a < p) (h : b * p + a < 2 ^ 64) : lN (b * p) ||| lN a = lN (b * p + a) := by
  subst hp
  have h1 : b * 2 ^ k ||| a = b * 2 ^ k + a := by rw [← Nat.shiftLeft_eq, Nat.shiftLeft_add_eq_or_of_lt ha]
  have h3 : UInt64.ofNat (b * 2 ^ k) ||| UInt64.ofNat a = UInt64.ofNat (b * 2 ^ k + a) := UInt64.toNat_inj.mp (by rw [UInt64.toNat_or, u_tn (by omega), u_tn (by omega), u_tn h, h1])
  have h2 := congrArg UInt64.toInt64 h3
  exact h2
/-- the tab stop: X's mask and Y's division agree, and the stop is a small number again -/
theorem lc_tab : ∀ c, c < 4096 → (nI c &&& (-8)) + 8 = nI (c / 8 * 8 + 8) ∧ ((nI c / 8) + 1) * 8 = nI (c / 8 * 8 + 8) := by decide +kernel
/-- here(): X's shift and or, Y's product and sum, for any line and a column that is not negative -/
theorem lc_here (l : Int32) {c : Nat} (hc : c < 2 ^ 31) : (l.toInt64 <<< ((32 : Int32).toInt64 &&& 63)) ||| ((nI c).toInt64 &&& 4294967295) = (l.toInt64 * 4294967296) + (nI c).toInt64 := by
  obtain ⟨n, hn, e⟩ := wb_of l.toInt64
  rw [e, nI_l hc]
  have h1 : lN n <<< ((32 : Int32).toInt64 &&& 63) = lN (n * 2 ^ 32) := wb_shl n (k := 32) (by decide)
  have h2 : lN c &&& 4294967295 = lN c := by
    have h := wb_mask (n := c) (k := 32) (by omega) (by decide)
    rw [Nat.mod_eq_of_lt (show c < 2 ^ 32 by omega)] at h
    exact h
  have h3 : lN n * 4294967296 = lN (n * 2 ^ 32) := lN_mul n 4294967296
  have h4 : lN (n * 2 ^ 32) = lN (n % 2 ^ 32 * 2 ^ 32) := by
    rw [wb_mod (n * 2 ^ 32), show n * 2 ^ 32 % 2 ^ 64 = n % 2 ^ 32 * 2 ^ 32 by omega]
  rw [h1, h2, h3, h4, lN_add]
  exact g_or (k := 32) rfl (by omega) (by omega)
end
section
/-- the two states are the same tuple, and the column is a natural number of at most four times the cells read -/
def i_Rel (k : Nat) (u : SX) (v : SY) : Prop := v = u ∧ ∃ c : Nat, c ≤ 4 * k ∧ u.2.1 = nI c
theorem i_up {k : Nat} {u : SX} {v : SY} (h : i_Rel k u v) : i_Rel (k + 2) u v := by
  obtain ⟨e, c, hc, ec⟩ := h
  exact ⟨e, c, by omega, ec⟩
theorem i_vc0 : wpX_init (fun u => wpY_init (fun v => i_Rel 0 u v)) := ⟨rfl, 0, Nat.le_refl 0, nI_0.symm⟩
/-- a state of the two sides with column nI c is related -/
theorem lc_mk {k c : Nat} (l x b : Int32) (f s : Int64) (hx : x = nI c) (hc : c ≤ 4 * k) : i_Rel k (l, x, b, f, s) (l, x, b, f, s) := ⟨rfl, c, hc, hx⟩
theorem i_vc_feed {k : Nat} {u : SX} {v : SY} (I : i_Rel k u v) (hk : k + 2 ≤ 1024) (v1 : Int32) : wpX_feed (fun r u' => wpY_feed (fun r' v' => r' = r ∧ i_Rel (k + 2) u' v') v (lw_u16 v1)) u (lw_u16 v1) := by
  obtain ⟨line, col, cr, fed, start⟩ := u
  obtain ⟨rfl, c, hc, ec⟩ := I
  have ec' : col = nI c := ec
  subst ec'
  generalize lw_u16 v1 = p
  intro f ef
  refine br_c (fun h13 => ?_) (fun n13 => br_c (fun h10 => ?_) (fun n10 => br_c (fun h133 => ?_) (fun n133 => br_c (fun h9 => ?_) (fun n9 => ?_))))
  · intro y ey g eg
    cases eg.trans ef.symm
    subst h13
    exact br_f (by decide) (br_f (by decide) (br_t rfl (fun z ez => ⟨ez.trans ey.symm, by cases ez.trans ey.symm; exact lc_mk _ _ _ _ _ nI_0.symm (Nat.zero_le _)⟩)))
  · subst h10
    refine br_c (fun h0 => ?_) (fun h0 => ?_)
    · intro y ey g eg
      cases eg.trans ef.symm
      exact br_f (by decide) (br_t rfl (br_t h0 (fun z ez => ⟨ez.trans ey.symm, by cases ez.trans ey.symm; exact lc_mk _ _ _ _ _ nI_0.symm (Nat.zero_le _)⟩)))
    · intro g eg
      cases eg.trans ef.symm
      exact br_f (by decide) (br_t rfl (br_f h0 ⟨rfl, lc_mk _ _ _ _ _ nI_0.symm (Nat.zero_le _)⟩))
  · intro y ey g eg
    cases eg.trans ef.symm
    subst h133
    exact br_f (by decide) (br_f (by decide) (br_f (by decide) (br_t rfl (fun z ez => ⟨ez.trans ey.symm, by cases ez.trans ey.symm; exact lc_mk _ _ _ _ _ nI_0.symm (Nat.zero_le _)⟩))))
  · intro y ey g eg
    cases eg.trans ef.symm
    obtain ⟨tx, ty⟩ := lc_tab c (by omega)
    refine br_t h9 ⟨by decide, fun z ez => ⟨rfl, ?_⟩⟩
    cases ez.trans (ty.trans (tx.symm.trans ey.symm))
    exact lc_mk _ _ _ _ _ (ey.trans tx) (by omega)
  · intro y ey g eg
    cases eg.trans ef.symm
    refine br_f n9 (br_f n10 (br_f n13 (br_f n133 (fun z ez => ⟨rfl, ?_⟩))))
    cases ez.trans ey.symm
    exact lc_mk _ _ _ _ _ (ey.trans (nI_1 c)) (by omega)
theorem i_vc_here {k : Nat} {u : SX} {v : SY} (I : i_Rel k u v) (hk : k + 2 ≤ 1024) : wpX_here (fun r => wpY_here (fun r' => r' = r ∧ i_Rel (k + 2) u v) v) u := by
  have J := i_up I
  obtain ⟨line, col, cr, fed, start⟩ := u
  obtain ⟨rfl, c, hc, ec⟩ := I
  have ec' : col = nI c := ec
  subst ec'
  exact ⟨(lc_here line (by omega)).symm, J⟩
theorem i_vc_offsetOfLine {k : Nat} {u : SX} {v : SY} (I : i_Rel k u v) (hk : k + 2 ≤ 1024) : wpX_offsetOfLine (fun r => wpY_offsetOfLine (fun r' => r' = r ∧ i_Rel (k + 2) u v) v) u := by
  have J := i_up I
  obtain ⟨line, col, cr, fed, start⟩ := u
  obtain ⟨rfl, c, hc, ec⟩ := I
  exact ⟨rfl, J⟩
end
