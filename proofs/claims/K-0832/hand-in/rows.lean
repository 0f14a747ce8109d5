section
-- rows pk_* : starting text (kit/rows/PURE-ROWS); rows zs_* : own
theorem pk_and (x : Int32) {m : Int32} (k : Nat) (hm : m.toBitVec.toNat = 2 ^ k - 1) : x &&& m = nI (x.toBitVec.toNat % 2 ^ k) := by
  apply Int32.toBitVec_inj.mp
  apply BitVec.eq_of_toNat_eq
  rw [Int32.toBitVec_and, BitVec.toNat_and, hm, Nat.and_two_pow_sub_one_eq_mod]
  show _ = (BitVec.ofNat 32 _).toNat
  rw [BitVec.toNat_ofNat]
  exact (Nat.mod_eq_of_lt (Nat.lt_of_le_of_lt (Nat.mod_le _ _) x.toBitVec.isLt)).symm
theorem pk_ushr (x s : Int32) (k : Nat) (hs : ((s.toUInt32 &&& Int32.toUInt32 31).toBitVec % 32).toNat = k) : (x.toUInt32 >>> (s.toUInt32 &&& Int32.toUInt32 31)).toInt32.toBitVec.toNat = x.toBitVec.toNat / 2 ^ k := by
  have e : (x.toUInt32 >>> (s.toUInt32 &&& Int32.toUInt32 31)).toInt32.toBitVec = x.toBitVec >>> k := by
    rw [← hs]
    exact UInt32.toBitVec_shiftRight _ _
  rw [e, BitVec.toNat_ushiftRight, Nat.shiftRight_eq_div_pow]
/-- a masked index is within the ring -/
theorem zs_in (y : Int32) : vp_in (y &&& 15) 16 := by
  rw [pk_and y 4 (by decide)]
  exact vp_in_nI (Nat.mod_lt _ (by decide)) (by decide)
/-- a counter whose upper 28 bits are clear is below 16 -/
theorem zs_lo {x : Int32} (h : (x.toUInt32 >>> ((4 : Int32).toUInt32 &&& Int32.toUInt32 31)).toInt32 = 0) : x.toBitVec.toNat < 16 := by
  have e := pk_ushr x 4 4 (by decide)
  rw [h] at e
  have z : (0 : Int32).toBitVec.toNat = 0 := by decide
  rw [z] at e
  omega
/-- and the mask leaves it as it is -/
theorem zs_and {x : Int32} (h : (x.toUInt32 >>> ((4 : Int32).toUInt32 &&& Int32.toUInt32 31)).toInt32 = 0) : x &&& 15 = x := by
  apply Int32.toBitVec_inj.mp
  apply BitVec.eq_of_toNat_eq
  have hm : (15 : Int32).toBitVec.toNat = 2 ^ 4 - 1 := by decide
  rw [Int32.toBitVec_and, BitVec.toNat_and, hm, Nat.and_two_pow_sub_one_eq_mod]
  exact Nat.mod_eq_of_lt (zs_lo h)
theorem zs_lin {x : Int32} (h : (x.toUInt32 >>> ((4 : Int32).toUInt32 &&& Int32.toUInt32 31)).toInt32 = 0) : vp_in x 16 := by
  have e := zs_in x
  rw [zs_and h] at e
  exact e
/-- the index of load -/
theorem zs_ld {x : Int32} (h0 : ¬ x < 0) (h : x ≤ 15) : vp_in x 16 := by
  obtain ⟨j, hj, rfl⟩ := nI_of2 (M := 15) (n := 15) (by decide) h0 h
  exact vp_in_nI (by omega) (by decide)
/-- the reference adds in another order -/
theorem zs_sum (p s q r : Int32) : p + ((s + q) + r) = ((p + s) + q) + r := by
  rw [← Int32.add_assoc, ← Int32.add_assoc]
/-- the reference's rotation counts -/
theorem zs_25 : (32 - 7 : Int32) = 25 := by decide
theorem zs_14 : (32 - 18 : Int32) = 14 := by decide
theorem zs_15 : (32 - 17 : Int32) = 15 := by decide
theorem zs_13 : (32 - 19 : Int32) = 13 := by decide
end
section
/-- the two objects hold the same counter and the same sixteen words -/
def i_Rel (k : Nat) (u : SX) (v : SY) : Prop := u = v
theorem i_up {k : Nat} {u : SX} {v : SY} (h : i_Rel k u v) : i_Rel (k + 3) u v := h
theorem i_vc0 : wpX_init (fun u => wpY_init (fun v => i_Rel 0 u v)) := rfl
theorem i_vc_load {k : Nat} {u : SX} {v : SY} (I : i_Rel k u v) (hk : k + 3 ≤ 1536) (v1 : Int32) (v2 : Int32) : wpX_load (fun r u' => wpY_load (fun r' v' => r' = r ∧ i_Rel (k + 3) u' v') v v1 v2) u v1 v2 := by
  obtain ⟨t, a⟩ := u
  cases I
  by_cases h0 : v1 < 0
  · exact br_t h0 (br_t h0 ⟨rfl, rfl⟩)
  · by_cases h15 : v1 ≤ 15
    · have hi : vp_in v1 16 := zs_ld h0 h15
      exact br_f h0 (br_t h15 ⟨hi, fun b eb => br_f h0 (br_t h15 ⟨hi, fun d ed => ⟨rfl, by rw [eb, ed]; exact rfl⟩⟩)⟩)
    · exact br_f h0 (br_f h15 (br_f h0 (br_f h15 ⟨rfl, rfl⟩)))
theorem i_vc_next {k : Nat} {u : SX} {v : SY} (I : i_Rel k u v) (hk : k + 3 ≤ 1536) : wpX_next (fun r u' => wpY_next (fun r' v' => r' = r ∧ i_Rel (k + 3) u' v') v) u := by
  obtain ⟨t, a⟩ := u
  cases I
  intro t1 e1
  by_cases c : (t.toUInt32 >>> ((4 : Int32).toUInt32 &&& Int32.toUInt32 31)).toInt32 = 0
  · refine br_t c ⟨zs_lin c, ?_⟩
    intro t2 e2 j ej
    refine br_t c ⟨by rw [ej]; exact zs_in t, ?_⟩
    show a j.toNatClampNeg = a t.toNatClampNeg ∧ (t1, a) = (t2, a)
    rw [ej, zs_and c, e1, e2]
    exact ⟨rfl, rfl⟩
  · refine br_f c ⟨zs_in _, fun x2 g2 => ⟨zs_in _, fun x3 g3 x4 g4 x5 g5 => ⟨zs_in _, zs_in _, fun x6 g6 => ⟨zs_in _, fun b eb => ?_⟩⟩⟩⟩
    intro t2 e2 j ej
    refine br_f c ⟨zs_in _, fun y3 f3 => ⟨zs_in _, fun y4 f4 => ?_⟩⟩
    intro y5 f5
    intro y6 f6
    have hj : vp_in j 16 := by rw [ej]; exact zs_in t
    refine ⟨hj, zs_in _, hj, fun w ew => ?_⟩
    have s3 : y3 = x2 := f3.trans g2.symm
    have s4 : y4 = x3 := f4.trans g3.symm
    rw [zs_25, zs_14, s3, ← g4] at f5
    rw [zs_15, zs_13, s4, ← g5] at f6
    have ev : a j.toNatClampNeg + ((y5 + a ((t + 9) &&& 15).toNatClampNeg) + y6) = x6 := by
      rw [zs_sum, f5, f6, ej, g6]
    show a j.toNatClampNeg + ((y5 + a ((t + 9) &&& 15).toNatClampNeg) + y6) = x6 ∧ (t1, b) = (t2, w)
    rw [ev] at ew
    rw [ev, ew, eb, ej, e1, e2]
    exact ⟨rfl, rfl⟩
theorem i_vc_reset {k : Nat} {u : SX} {v : SY} (I : i_Rel k u v) (hk : k + 3 ≤ 1536) : wpX_reset (fun r u' => wpY_reset (fun r' v' => r' = r ∧ i_Rel (k + 3) u' v') v) u := by
  obtain ⟨t, a⟩ := u
  cases I
  exact ⟨rfl, rfl⟩
theorem i_vc_step {k : Nat} {u : SX} {v : SY} (I : i_Rel k u v) (hk : k + 3 ≤ 1536) : wpX_step (fun r => wpY_step (fun r' => r' = r ∧ i_Rel (k + 3) u v) v) u := by
  obtain ⟨t, a⟩ := u
  cases I
  exact ⟨rfl, rfl⟩
end
