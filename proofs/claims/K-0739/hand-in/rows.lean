section
/-! ===== lN n to 2^64: shifts, and, or, masks, one bit ===== -/
theorem wb_tb (n : Nat) : (lN n).toBitVec = BitVec.ofNat 64 n := rfl
theorem wb_inj {a b : Int64} (h : a.toBitVec = b.toBitVec) : a = b := Int64.toBitVec_inj.mp h
theorem wb_tn {n : Nat} (h : n < 2 ^ 64) : (lN n).toBitVec.toNat = n := by rw [wb_tb, BitVec.toNat_ofNat, Nat.mod_eq_of_lt h]
theorem wb_c : ∀ k, k < 64 → ((nI k).toInt64 &&& 63) = lN k := by decide +kernel
theorem wb_cu : ∀ k, k < 64 → ((nI k).toInt64.toUInt64 &&& Int64.toUInt64 63) = UInt64.ofNat k := by decide +kernel
theorem wb_sm : ∀ k, k < 64 → (BitVec.ofNat 64 k).smod 64 = BitVec.ofNat 64 k := by decide +kernel
theorem wb_lt2 {a b : Nat} (h : a < b) : 2 ^ a < 2 ^ b := Nat.pow_lt_pow_right (by decide) h
theorem wb_shr {n k : Nat} (hn : n < 2 ^ 64) (hk : k < 64) : ((lN n).toUInt64 >>> ((nI k).toInt64.toUInt64 &&& Int64.toUInt64 63)).toInt64 = lN (n / 2 ^ k) := by
  rw [wb_cu k hk]
  apply wb_inj
  apply BitVec.eq_of_toNat_eq
  show ((lN n).toUInt64 >>> UInt64.ofNat k).toNat = (BitVec.ofNat 64 _).toNat
  have h1 : (UInt64.ofNat k).toNat = k := by
    show (BitVec.ofNat 64 k).toNat = k
    rw [BitVec.toNat_ofNat, Nat.mod_eq_of_lt (by omega)]
  have h2 : (lN n).toUInt64.toNat = n := wb_tn hn
  rw [UInt64.toNat_shiftRight, h1, h2, Nat.mod_eq_of_lt hk, Nat.shiftRight_eq_div_pow, BitVec.toNat_ofNat, Nat.mod_eq_of_lt (Nat.lt_of_le_of_lt (Nat.div_le_self _ _) hn)]
theorem wb_shl (n : Nat) {k : Nat} (hk : k < 64) : lN n <<< ((nI k).toInt64 &&& 63) = lN (n * 2 ^ k) := by
  rw [wb_c k hk]
  apply wb_inj
  rw [Int64.toBitVec_shiftLeft, wb_tb, wb_tb, wb_tb, wb_sm k hk]
  apply BitVec.eq_of_toNat_eq
  rw [BitVec.shiftLeft_eq', BitVec.toNat_shiftLeft, BitVec.toNat_ofNat, BitVec.toNat_ofNat, BitVec.toNat_ofNat, Nat.mod_eq_of_lt (show k < 2 ^ 64 by omega), Nat.shiftLeft_eq, Nat.mul_mod, Nat.mod_mod, ← Nat.mul_mod]
theorem wb_and {a b : Nat} (ha : a < 2 ^ 64) (hb : b < 2 ^ 64) : lN a &&& lN b = lN (a &&& b) := by
  apply wb_inj
  rw [Int64.toBitVec_and, wb_tb, wb_tb, wb_tb]
  apply BitVec.eq_of_toNat_eq
  rw [BitVec.toNat_and, BitVec.toNat_ofNat, BitVec.toNat_ofNat, BitVec.toNat_ofNat, Nat.mod_eq_of_lt ha, Nat.mod_eq_of_lt hb, Nat.mod_eq_of_lt (Nat.and_lt_two_pow _ hb)]
theorem wb_or {a b : Nat} (ha : a < 2 ^ 64) (hb : b < 2 ^ 64) : lN a ||| lN b = lN (a ||| b) := by
  apply wb_inj
  rw [Int64.toBitVec_or, wb_tb, wb_tb, wb_tb]
  apply BitVec.eq_of_toNat_eq
  rw [BitVec.toNat_or, BitVec.toNat_ofNat, BitVec.toNat_ofNat, BitVec.toNat_ofNat, Nat.mod_eq_of_lt ha, Nat.mod_eq_of_lt hb, Nat.mod_eq_of_lt (Nat.or_lt_two_pow ha hb)]
theorem wb_mask {n k : Nat} (hn : n < 2 ^ 64) (hk : k < 64) : lN n &&& lN (2 ^ k - 1) = lN (n % 2 ^ k) := by
  rw [wb_and hn (by have := wb_lt2 hk; omega), Nat.and_two_pow_sub_one_eq_mod]
theorem pk_sub {a b : Nat} (h : b ≤ a) : nI a - nI b = nI (a - b) := by
  obtain ⟨c, rfl⟩ : ∃ c, a = c + b := ⟨a - b, by omega⟩
  rw [← nI_add, Int32.add_sub_cancel, Nat.add_sub_cancel]
end
section
/-! ===== The cursor: position = segment * 2^32 + offset. The segment is at most the turn's first cell, so nothing ever wraps. ===== -/
def i_Rel (k : Nat) (u : SX) (v : SY) : Prop :=
  ∃ z s o : Nat, 8 ≤ z ∧ z ≤ 4096 ∧ o ≤ z ∧ s ≤ k ∧ u = (nI z, lN (s * 2 ^ 32 + o)) ∧ v = (nI z, nI s, nI o)
theorem ls_mk {k : Nat} {u : SX} {v : SY} (z s o : Nat) (h8 : 8 ≤ z) (hz : z ≤ 4096) (ho : o ≤ z) (hs : s ≤ k) (hu : u = (nI z, lN (s * 2 ^ 32 + o))) (hv : v = (nI z, nI s, nI o)) : i_Rel k u v := by
  unfold i_Rel
  exact ⟨z, s, o, h8, hz, ho, hs, hu, hv⟩
theorem i_up {k : Nat} {u : SX} {v : SY} (h : i_Rel k u v) : i_Rel (k + 5) u v := by
  obtain ⟨z, s, o, h8, hz, ho, hs, hu, hv⟩ := h
  exact ls_mk z s o h8 hz ho (by omega) hu hv
/-! the packed word in naturals -/
theorem ls_32 : (32 : Int32) = nI 32 := rfl
theorem ls_m : (4294967295 : Int64) = lN (2 ^ 32 - 1) := rfl
theorem ls_tail {s o : Nat} (hs : s < 2 ^ 31) (ho : o < 2 ^ 31) : ((nI s).toInt64 <<< ((32 : Int32).toInt64 &&& 63)) ||| ((nI o).toInt64 &&& 4294967295) = lN (s * 2 ^ 32 + o) := by
  have e : s * 2 ^ 32 ||| o = s * 2 ^ 32 + o := by rw [← Nat.shiftLeft_eq, Nat.shiftLeft_add_eq_or_of_lt (show o < 2 ^ 32 by omega)]
  rw [nI_l hs, nI_l ho, ls_32, ls_m, wb_shl s (by decide), wb_mask (by omega) (by decide), Nat.mod_eq_of_lt (by omega), wb_or (by omega) (by omega), e]
theorem ls_lo (s : Nat) (o : Nat) : (lN (s * 2 ^ 32 + o)).toInt32 = nI o := by
  rw [lN_i]
  apply Int32.toBitVec_inj.mp
  show BitVec.ofNat 32 _ = BitVec.ofNat 32 _
  apply BitVec.eq_of_toNat_eq
  rw [BitVec.toNat_ofNat, BitVec.toNat_ofNat]
  omega
theorem ls_seg {s o : Nat} (hs : s < 2 ^ 31) (ho : o < 2 ^ 31) : ((lN (s * 2 ^ 32 + o)).toUInt64 >>> ((32 : Int32).toInt64.toUInt64 &&& Int64.toUInt64 63)).toInt64 = lN s := by
  have e : (s * 2 ^ 32 + o) / 2 ^ 32 = s := by omega
  rw [ls_32, wb_shr (by omega) (by decide), e]
theorem ls_nx {s : Nat} (hs : s < 2 ^ 31) : (lN s + 1) &&& 4294967295 = lN (s + 1) := by
  rw [lN_1, ls_m, wb_mask (by omega) (by decide), Nat.mod_eq_of_lt (by omega)]
theorem ls_up (s : Nat) : lN s <<< ((32 : Int32).toInt64 &&& 63) = lN (s * 2 ^ 32 + 0) := by
  rw [ls_32, wb_shl s (by decide), Nat.add_zero]
/-! the calls -/
theorem i_vc0 (k0 : Int32) : wpX_init (fun u => wpY_init (fun v => i_Rel 1 u v) k0) k0 := by
  by_cases h8 : 8 ≤ k0
  · by_cases h9 : k0 ≤ 4096
    · have hn : ¬ k0 < 0 := Int32.not_lt.mpr (Int32.le_trans (by decide) h8)
      obtain ⟨z, hz, e⟩ := nI_of hn
      have a : 8 ≤ z := (nI_leI (a := 8) (by decide) hz).mp (by rw [← e]; exact h8)
      have b : z ≤ 4096 := (nI_leI (b := 4096) hz (by decide)).mp (by rw [← e]; exact h9)
      exact br_t h8 (br_t h9 (br_t h8 (br_t h9 (ls_mk z 0 0 a b (Nat.zero_le _) (Nat.zero_le _) (by rw [e]; rfl) (by rw [e]; rfl)))))
    · exact br_t h8 (br_f h9 (br_t h8 (br_f h9 (ls_mk 4096 0 0 (by decide) (by decide) (by decide) (by decide) rfl rfl))))
  · exact br_f h8 (br_t (by decide) (br_f h8 (ls_mk 8 0 0 (by decide) (by decide) (by decide) (by decide) rfl rfl)))
theorem i_vc_reserve {k : Nat} {u : SX} {v : SY} (I : i_Rel k u v) (hk : k + 5 ≤ 2561) (v1 : Int32) : wpX_reserve (fun r u' => wpY_reserve (fun r' v' => r' = r ∧ i_Rel (k + 5) u' v') v v1) u v1 := by
  have I' := i_up I
  obtain ⟨z, s, o, h8, hz, ho, hs, rfl, rfl⟩ := I
  by_cases h0 : v1 ≤ 0
  · exact br_t h0 (br_t h0 ⟨rfl, I'⟩)
  · by_cases h1 : v1 ≤ nI z
    · obtain ⟨l, hl, rfl⟩ := nI_of (x := v1) (fun h => h0 (Int32.le_of_lt h))
      have hlz : l ≤ z := (nI_leI hl (by omega)).mp h1
      have eX : (lN (s * 2 ^ 32 + o)).toInt32 = nI o := ls_lo s o
      have eS : nI z - nI o = nI (z - o) := pk_sub ho
      by_cases h2 : l ≤ z - o
      · have hc : nI l ≤ nI z - nI o := by rw [eS]; exact nI_le h2 (by omega)
        have hcX : nI l ≤ nI z - (lN (s * 2 ^ 32 + o)).toInt32 := by rw [eX]; exact hc
        refine br_f h0 (br_t h1 (br_t hcX ?_))
        intro p ep
        refine br_f h0 (br_t h1 (br_t hc ?_))
        intro q eq
        exact ⟨ls_tail (by omega) (by omega), ls_mk z s (o + l) h8 hz (by omega) (by omega) (by rw [ep, nI_l hl, lN_add, Nat.add_assoc]) (by rw [eq, nI_add])⟩
      · have hc : ¬ nI l ≤ nI z - nI o := by rw [eS]; exact nI_ge (by omega) (by omega)
        have hcX : ¬ nI l ≤ nI z - (lN (s * 2 ^ 32 + o)).toInt32 := by rw [eX]; exact hc
        refine br_f h0 (br_t h1 (br_f hcX ?_))
        intro a ea b eb c ec p ep
        have ec' : c = lN ((s + 1) * 2 ^ 32 + 0) := by
          rw [ec, eb, ea, ls_seg (by omega) (by omega), ls_nx (by omega), ls_up]
        refine br_f h0 (br_t h1 (br_f hc ?_))
        intro g eg q eq
        have eg' : g = nI (s + 1) := by rw [eg, nI_1]
        have eq' : q = nI (0 + l) := by rw [eq, ← nI_0, nI_add]
        have ep' : p = lN ((s + 1) * 2 ^ 32 + (0 + l)) := by rw [ep, ec', nI_l hl, lN_add, Nat.add_assoc]
        refine ⟨?_, ls_mk z (s + 1) (0 + l) h8 hz (by omega) (by omega) (by rw [ep']) (by rw [eg', eq'])⟩
        rw [ec', eg', ← nI_0]
        exact ls_tail (by omega) (by omega)
    · exact br_f h0 (br_f h1 (br_f h0 (br_f h1 ⟨rfl, I'⟩)))
theorem i_vc_tail {k : Nat} {u : SX} {v : SY} (I : i_Rel k u v) (hk : k + 5 ≤ 2561) : wpX_tail (fun r => wpY_tail (fun r' => r' = r ∧ i_Rel (k + 5) u v) v) u := by
  have I' := i_up I
  obtain ⟨z, s, o, h8, hz, ho, hs, rfl, rfl⟩ := I
  exact And.intro (ls_tail (by omega) (by omega)) I'
theorem i_vc_segOf {k : Nat} {u : SX} {v : SY} (I : i_Rel k u v) (hk : k + 5 ≤ 2561) (a0 : Int64) : wpX_segOf (fun r => wpY_segOf (fun r' => r' = r ∧ i_Rel (k + 5) u v) v a0) u a0 := by
  have I' := i_up I
  obtain ⟨z, s, o, h8, hz, ho, hs, rfl, rfl⟩ := I
  exact And.intro rfl I'
theorem i_vc_offOf {k : Nat} {u : SX} {v : SY} (I : i_Rel k u v) (hk : k + 5 ≤ 2561) (a0 : Int64) : wpX_offOf (fun r => wpY_offOf (fun r' => r' = r ∧ i_Rel (k + 5) u v) v a0) u a0 := by
  have I' := i_up I
  obtain ⟨z, s, o, h8, hz, ho, hs, rfl, rfl⟩ := I
  exact And.intro rfl I'
theorem i_vc_distance {k : Nat} {u : SX} {v : SY} (I : i_Rel k u v) (hk : k + 5 ≤ 2561) (a0 : Int64) (a1 : Int64) : wpX_distance (fun r => wpY_distance (fun r' => r' = r ∧ i_Rel (k + 5) u v) v a0 a1) u a0 a1 := by
  have I' := i_up I
  obtain ⟨z, s, o, h8, hz, ho, hs, rfl, rfl⟩ := I
  intro x5 e5 x7 e7 a ea b eb
  subst e5 e7 ea eb
  exact And.intro rfl I'
end
