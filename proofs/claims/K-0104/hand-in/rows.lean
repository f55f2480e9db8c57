section
/-! CarryCache: the plain facts. A byte doesn't see the bits above 255; the two tests for room (one by longs, one by ints) are one; the filling loops go in lockstep -/
/-- the low byte of y and of y & 255 are the same -/
theorem cc_b (y : Int32) : (y &&& 255).toInt8 = y.toInt8 := by
  apply Int8.toBitVec_inj.mp
  rw [Int32.toBitVec_toInt8, Int32.toBitVec_toInt8, Int32.toBitVec_and]
  apply BitVec.eq_of_getLsbD_eq
  intro i hi
  have hm : ∀ i < 8, (255 : Int32).toBitVec.getLsbD i = true := by decide
  have h2 : i < 32 := by omega
  rw [BitVec.getLsbD_signExtend, BitVec.getLsbD_signExtend, BitVec.getLsbD_and, if_pos h2, if_pos h2, hm i hi, Bool.and_true]
theorem cc_8 : (8 : Int32) = nI 8 := by decide +kernel
theorem cc_L8 : (8 : Int64) = lN 8 := by decide +kernel
/-- the component's test for room, by longs -/
theorem cc_rX {s r : Nat} (hs : s < 2 ^ 29) (hr : r < 2 ^ 29) : (nI s).toInt64 + (nI r).toInt64 + 1 ≤ 8 ↔ s + r + 1 ≤ 8 := by
  rw [nI_l (by omega), nI_l (by omega), lN_add, lN_1, cc_L8, lN_le (by omega) (by omega)]
/-- the reference's test for room, by ints -/
theorem cc_rY {s r : Nat} (hs : s < 2 ^ 29) (hr : r < 2 ^ 29) : nI s + nI r + 1 ≤ 8 ↔ s + r + 1 ≤ 8 := by
  rw [nI_add, nI_1, cc_8, nI_leI (by omega) (by omega)]
/-- the next cache -/
def cc_c (x2 : Int64) : Int32 := ((x2.toUInt64 >>> ((24 : Int32).toInt64.toUInt64 &&& Int64.toUInt64 63)).toInt64).toInt32
/-- the next low -/
def cc_l (f_low : Int64) : Int64 := (f_low &&& 16777215) <<< ((8 : Int32).toInt64 &&& 63)
/-- both filling loops, with d rounds left: one end for both -/
theorem cc_loop (x2 f_low : Int64) (f_cache fr x6 x1 : Int32) (r : Nat) (hr : r < 2 ^ 31) (hb : (255 + x1).toInt8 = x6.toInt8) : ∀ (d j s : Nat) (a : Nat → Int32), j + d = r → s + d ≤ 8 →
    ∃ a' : Nat → Int32, (∀ post : Int32 → SX → Prop, wX_shiftLow_176 post f_low (cc_c x2) 0 (nI (s + d)) a' → wX_shiftLow_127 post x2 x6 (nI r) f_low f_cache fr (d + 1) (nI j) (nI s) a)
      ∧ (∀ post : Int32 → SY → Prop, wY_shiftLow_146 post f_low (cc_c x2) 0 (nI (s + d)) a' → wY_shiftLow_95 post x1 x2 f_low f_cache (nI r) (d + 1) (nI j) (nI s) a) := by
  intro d
  induction d with
  | zero =>
    intro j s a hj hs
    have h : nI r ≤ nI j := nI_le (by omega) (by omega)
    exact ⟨a, fun _ hp => br_t h (nm_e hp), fun _ hp => br_t h (nm_e hp)⟩
  | succ d ih =>
    intro j s a hj hs
    have h : ¬ nI r ≤ nI j := nI_ge (by omega) hr
    have hi : vp_in (nI s) 8 := vp_in_nI (by omega) (by omega)
    obtain ⟨a', hX, hY⟩ := ih (j + 1) (s + 1) (upd a (nI s).toNatClampNeg (vp_nar .byte x6.toInt8.toInt32)) (by omega) (by omega)
    have e : s + 1 + d = s + (d + 1) := by omega
    have eb : upd a (nI s).toNatClampNeg (vp_nar .byte (255 + x1).toInt8.toInt32) = upd a (nI s).toNatClampNeg (vp_nar .byte x6.toInt8.toInt32) := by rw [hb]
    rw [e] at hX hY
    exact ⟨a', fun post hp => br_f h ⟨hi, nm_e (nm_r (nI_1 s) (nm_r (nI_1 j) (hX post hp)))⟩, fun post hp => br_f h (nm_r (nI_1 s) ⟨hi, nm_r eb (nm_r (nI_1 j) (hY post hp))⟩)⟩
end
section
/-- the two objects hold the same: run is at most the cells read so far, size at most 8 -/
def i_Rel (k : Nat) (u : SX) (v : SY) : Prop :=
  ∃ (f_low : Int64) (f_cache : Int32) (r s : Nat) (a : Nat → Int32), u = (f_low, f_cache, nI r, nI s, a) ∧ v = (f_low, f_cache, nI r, nI s, a) ∧ r ≤ k ∧ s ≤ 8
theorem i_up {k : Nat} {u : SX} {v : SY} (h : i_Rel k u v) : i_Rel (k + 2) u v := by
  obtain ⟨l, c, r, s, a, hu, hv, hr, hs⟩ := h
  exact ⟨l, c, r, s, a, hu, hv, by omega, hs⟩
theorem i_vc0 : wpX_init (fun u => wpY_init (fun v => i_Rel 0 u v)) :=
  ⟨0, 0, 0, 0, fun _ => 0, by rw [nI_0], by rw [nI_0], by omega, by omega⟩
theorem i_vc_add {k : Nat} {u : SX} {v : SY} (I : i_Rel k u v) (hk : k + 2 ≤ 1024) (v1 : Int32) : wpX_add (fun r u' => wpY_add (fun r' v' => r' = r ∧ i_Rel (k + 2) u' v') v v1) u v1 := by
  obtain ⟨l, c, r, s, a, rfl, rfl, hr, hs⟩ := I
  by_cases h : l < 4294967296
  · exact br_t h (nm_e (br_t h (nm_e ⟨rfl, ⟨_, _, r, s, a, rfl, rfl, by omega, hs⟩⟩)))
  · exact br_f h (br_f h ⟨rfl, ⟨_, _, r, s, a, rfl, rfl, by omega, hs⟩⟩)
/-- the branch that writes: one answer and one end for both -/
theorem cc_51 {k : Nat} (x1 : Int32) (x2 f_low : Int64) (f_cache : Int32) {r s : Nat} (a : Nat → Int32) (hr : r ≤ k) (hk : k + 2 ≤ 1024) (hs : s ≤ 8) :
    ∃ (q : Int32) (w : SX), i_Rel (k + 2) w w ∧ (∀ post : Int32 → SX → Prop, post q w → wX_shiftLow_51 post x1 x2 f_low f_cache (nI r) (nI s) a) ∧ (∀ post : Int32 → SY → Prop, post q w → wY_shiftLow_51 post x1 x2 f_low f_cache (nI r) (nI s) a) := by
  have tX := cc_rX (s := s) (r := r) (by omega) (by omega)
  have tY := cc_rY (s := s) (r := r) (by omega) (by omega)
  by_cases h : s + r + 1 ≤ 8
  · have hX := tX.mpr h
    have hY := tY.mpr h
    have hi : vp_in (nI s) 8 := vp_in_nI (by omega) (by omega)
    have eb : upd a (nI s).toNatClampNeg (vp_nar .byte (((f_cache + x1) &&& 255).toInt8.toInt32)) = upd a (nI s).toNatClampNeg (vp_nar .byte ((f_cache + x1).toInt8.toInt32)) := by rw [cc_b]
    obtain ⟨a', lX, lY⟩ := cc_loop x2 f_low f_cache (nI r) ((255 + x1) &&& 255) x1 r (by omega) (cc_b _).symm r 0 (s + 1) (upd a (nI s).toNatClampNeg (vp_nar .byte ((f_cache + x1).toInt8.toInt32))) (by omega) (by omega)
    rw [nI_0] at lX lY
    refine ⟨nI (s + 1 + r), (cc_l f_low, cc_c x2, 0, nI (s + 1 + r), a'), ⟨_, _, 0, s + 1 + r, a', by rw [nI_0], by rw [nI_0], by omega, by omega⟩, fun post hp => ?_, fun post hp => ?_⟩
    · exact nm_e (br_t hX ⟨hi, nm_r eb (nm_r (nI_1 s) (nm_e ⟨_, lX post (nm_e hp)⟩))⟩)
    · exact br_t hY (nm_r (nI_1 s) ⟨hi, nm_e ⟨_, lY post (nm_e hp)⟩⟩)
  · exact ⟨-1, (f_low, f_cache, nI r, nI s, a), ⟨_, _, r, s, a, rfl, rfl, by omega, hs⟩, fun post hp => nm_e (br_f (fun z => h (tX.mp z)) hp), fun post hp => br_f (fun z => h (tY.mp z)) hp⟩
/-- behind the carry: one answer and one end for both -/
theorem cc_16 {k : Nat} (z0 : Int32) (f_low : Int64) (f_cache : Int32) {r s : Nat} (a : Nat → Int32) (hr : r ≤ k) (hk : k + 2 ≤ 1024) (hs : s ≤ 8) :
    ∃ (q : Int32) (w : SX), i_Rel (k + 2) w w ∧ (∀ post : Int32 → SX → Prop, post q w → wX_shiftLow_16 post z0 f_low f_cache (nI r) (nI s) a) ∧ (∀ post : Int32 → SY → Prop, post q w → wY_shiftLow_16 post z0 f_low f_cache (nI r) (nI s) a) := by
  obtain ⟨q, w, R, X, Y⟩ := cc_51 z0 (f_low &&& 4294967295) f_low f_cache a hr hk hs
  by_cases hz : z0 = 0
  · by_cases hl : f_low &&& 4294967295 < 4278190080
    · exact ⟨q, w, R, fun post hp => nm_e (br_t hz (br_t hl (X post hp))), fun post hp => nm_e (br_t hz (br_t hl (Y post hp)))⟩
    · exact ⟨nI s, (cc_l f_low, f_cache, nI (r + 1), nI s, a), ⟨_, _, r + 1, s, a, rfl, rfl, by omega, hs⟩, fun post hp => nm_e (br_t hz (br_f hl (nm_r (nI_1 r) (nm_e hp)))), fun post hp => nm_e (br_t hz (br_f hl (nm_r (nI_1 r) (nm_e hp))))⟩
  · exact ⟨q, w, R, fun post hp => nm_e (br_f hz (X post hp)), fun post hp => nm_e (br_f hz (Y post hp))⟩
theorem i_vc_shiftLow {k : Nat} {u : SX} {v : SY} (I : i_Rel k u v) (hk : k + 2 ≤ 1024) : wpX_shiftLow (fun r u' => wpY_shiftLow (fun r' v' => r' = r ∧ i_Rel (k + 2) u' v') v) u := by
  obtain ⟨l, c, r, s, a, rfl, rfl, hr, hs⟩ := I
  by_cases h : l < 4294967296
  · obtain ⟨q, w, R, X, Y⟩ := cc_16 0 l c a hr hk hs
    exact br_t h (X _ (br_t h (Y _ ⟨rfl, R⟩)))
  · obtain ⟨q, w, R, X, Y⟩ := cc_16 1 l c a hr hk hs
    exact br_f h (X _ (br_f h (Y _ ⟨rfl, R⟩)))
theorem i_vc_out {k : Nat} {u : SX} {v : SY} (I : i_Rel k u v) (hk : k + 2 ≤ 1024) (v1 : Int32) : wpX_out (fun r => wpY_out (fun r' => r' = r ∧ i_Rel (k + 2) u v) v v1) u v1 := by
  have J := i_up I
  obtain ⟨l, c, r, s, a, rfl, rfl, hr, hs⟩ := I
  by_cases h0 : v1 < 0
  · exact br_t h0 (br_t h0 ⟨rfl, J⟩)
  · by_cases h1 : v1 < nI s
    · have hi : vp_in v1 8 := by
        obtain ⟨j, hj, rfl⟩ := nI_of h0
        rw [nI_ltI hj (by omega)] at h1
        exact vp_in_nI (by omega) (by omega)
      exact br_f h0 (br_t h1 ⟨hi, br_f h0 (br_t h1 ⟨hi, rfl, J⟩)⟩)
    · exact br_f h0 (br_f h1 (br_f h0 (br_f h1 ⟨rfl, J⟩)))
theorem i_vc_size {k : Nat} {u : SX} {v : SY} (I : i_Rel k u v) (hk : k + 2 ≤ 1024) : wpX_size (fun r => wpY_size (fun r' => r' = r ∧ i_Rel (k + 2) u v) v) u := by
  have J := i_up I
  obtain ⟨l, c, r, s, a, rfl, rfl, hr, hs⟩ := I
  exact ⟨rfl, J⟩
end
