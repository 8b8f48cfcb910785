section
/-! one bit of a long: (m >>> l) & 1 against m & (1 << l), l = token & 63 -/
/-- token & 63 is a number below 64 -/
theorem es_low (x : Int32) : ∃ j : Nat, j < 64 ∧ x &&& 63 = nI j := by
  refine ⟨x.toBitVec.toNat % 2 ^ 6, Nat.mod_lt _ (by decide), ?_⟩
  apply Int32.toBitVec_inj.mp
  apply BitVec.eq_of_toNat_eq
  rw [Int32.toBitVec_and, BitVec.toNat_and, show (63 : Int32).toBitVec.toNat = 2 ^ 6 - 1 from by decide, Nat.and_two_pow_sub_one_eq_mod]
  show _ = (BitVec.ofNat 32 _).toNat
  rw [BitVec.toNat_ofNat]
  exact (Nat.mod_eq_of_lt (Nat.lt_of_le_of_lt (Nat.mod_le _ _) x.toBitVec.isLt)).symm
theorem es_sh : ∀ l, l < 64 → ((1 : Int64) <<< ((nI l).toInt64 &&& 63)).toBitVec = BitVec.twoPow 64 l := by decide +kernel
theorem es_sl : ∀ l, l < 64 → (((nI l).toInt64.toUInt64 &&& Int64.toUInt64 63).toBitVec % 64).toNat = l := by decide +kernel
theorem es_tp : ∀ l, l < 64 → BitVec.twoPow 64 l ≠ 0#64 := by decide +kernel
theorem es_bit (m : Int64) (l : Nat) (hl : l < 64) : ((m.toUInt64 >>> ((nI l).toInt64.toUInt64 &&& Int64.toUInt64 63)).toInt64 &&& 1) = 0 ↔ (m &&& ((1 : Int64) <<< ((nI l).toInt64 &&& 63))) = 0 := by
  have e : ((m.toUInt64 >>> ((nI l).toInt64.toUInt64 &&& Int64.toUInt64 63)).toInt64).toBitVec = m.toBitVec >>> l := by
    show m.toBitVec >>> (((nI l).toInt64.toUInt64 &&& Int64.toUInt64 63).toBitVec % 64) = m.toBitVec >>> l
    rw [BitVec.ushiftRight_eq', es_sl l hl]
  rw [← Int64.toBitVec_inj, ← Int64.toBitVec_inj, Int64.toBitVec_and, Int64.toBitVec_and, es_sh l hl, e, BitVec.and_twoPow]
  show (m.toBitVec >>> l &&& 1#64) = 0#64 ↔ _ = 0#64
  rw [BitVec.and_one_eq_setWidth_ofBool_getLsbD, BitVec.getLsbD_ushiftRight, Nat.add_zero]
  cases hb : m.toBitVec.getLsbD l
  · exact ⟨fun _ => by simp, fun _ => by decide⟩
  · exact ⟨fun z => absurd z (by decide), fun z => absurd ((if_pos rfl).symm.trans z) (es_tp l hl)⟩
/-- the two ways of asking for a token's bit, for any token -/
theorem es_ask (m : Int64) (x : Int32) : ((m.toUInt64 >>> ((x &&& 63).toInt64.toUInt64 &&& Int64.toUInt64 63)).toInt64 &&& 1) = 0 ↔ (m &&& ((1 : Int64) <<< ((x &&& 63).toInt64 &&& 63))) = 0 := by
  obtain ⟨j, hj, e⟩ := es_low x
  rw [e]
  exact es_bit m j hj
end
section
/-- the two trackers hold the same position and the same mask -/
def i_Rel (_ : Nat) (u : SX) (v : SY) : Prop := u = v
theorem i_up {k : Nat} {u : SX} {v : SY} (h : i_Rel k u v) : i_Rel (k + 3) u v := h
theorem i_vc0 : wpX_init (fun u => wpY_init (fun v => i_Rel 0 u v)) := rfl
theorem i_vc_fail {k : Nat} {u : SX} {v : SY} (I : i_Rel k u v) (hk : k + 3 ≤ 1536) (v1 : Int32) (v2 : Int32) : wpX_fail (fun r u' => wpY_fail (fun r' v' => r' = r ∧ i_Rel (k + 3) u' v') v v1 v2) u v1 v2 := by
  cases I
  obtain ⟨f, b⟩ := u
  by_cases h0 : 0 ≤ v1
  · refine br_t h0 fun x ex => ?_
    by_cases h1 : v1 ≤ f
    · refine br_t h1 ?_
      by_cases h2 : v1 = f
      · refine br_t h2 fun y ey => ?_
        refine br_t h0 fun x' ex' => br_t h1 (br_t h2 fun y' ey' => ⟨rfl, ?_⟩)
        rw [ey, ey', ex, ex']
        exact rfl
      · refine br_f h2 ?_
        exact br_t h0 fun x' ex' => br_t h1 (br_f h2 ⟨rfl, rfl⟩)
    · refine br_f h1 ?_
      refine br_t h0 fun x' ex' => br_f h1 ⟨rfl, ?_⟩
      rw [ex, ex']
      exact rfl
  · exact br_f h0 (br_f h0 ⟨rfl, rfl⟩)
theorem i_vc_where {k : Nat} {u : SX} {v : SY} (I : i_Rel k u v) (hk : k + 3 ≤ 1536) : wpX_where (fun r => wpY_where (fun r' => r' = r ∧ i_Rel (k + 3) u v) v) u := by
  cases I
  exact ⟨rfl, rfl⟩
theorem i_vc_expects {k : Nat} {u : SX} {v : SY} (I : i_Rel k u v) (hk : k + 3 ≤ 1536) (v1 : Int32) : wpX_expects (fun r => wpY_expects (fun r' => r' = r ∧ i_Rel (k + 3) u v) v v1) u v1 := by
  cases I
  obtain ⟨f, b⟩ := u
  refine br_c (fun h => ?_) (fun h => ?_)
  · exact nm_e (br_t ((es_ask b v1).mp h) ⟨rfl, rfl⟩)
  · exact nm_e (br_f (fun z => h ((es_ask b v1).mpr z)) ⟨rfl, rfl⟩)
theorem i_vc_mask {k : Nat} {u : SX} {v : SY} (I : i_Rel k u v) (hk : k + 3 ≤ 1536) : wpX_mask (fun r => wpY_mask (fun r' => r' = r ∧ i_Rel (k + 3) u v) v) u := by
  cases I
  exact ⟨rfl, rfl⟩
end
