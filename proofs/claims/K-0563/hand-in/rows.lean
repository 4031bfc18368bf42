section
/-- both sides keep the same eleven diagonals in one array -/
def i_Rel (_ : Nat) (u : SX) (v : SY) : Prop := u = v
theorem i_up {k : Nat} {u : SX} {v : SY} (h : i_Rel k u v) : i_Rel (k + 3) u v := h
theorem i_vc0 : wpX_init (fun u => wpY_init (fun v => i_Rel 0 u v)) := rfl
/-- the place of diagonal k -/
theorem tz_set {x : Int32} (h : ¬ x < (-5)) (h5 : x ≤ 5) : vp_in (x + 5) 11 := by
  have e5 : (5 : Int32).toInt = 5 := by decide
  have em : (-5 : Int32).toInt = -5 := by decide
  rw [Int32.lt_iff_toInt_lt, em] at h
  rw [Int32.le_iff_toInt_le, e5] at h5
  rw [vp_in_iff, Jvm.Kit.i32_add (by omega) (by omega), e5]
  omega
/-- the place of cell (x, y) -/
theorem tz_cell {x y : Int32} (hx0 : ¬ x < 0) (hx5 : x ≤ 5) (hy0 : ¬ y < 0) (hy5 : y ≤ 5) : vp_in ((x - y) + 5) 11 := by
  have e0 : (0 : Int32).toInt = 0 := by decide
  have e5 : (5 : Int32).toInt = 5 := by decide
  rw [Int32.lt_iff_toInt_lt, e0] at hx0 hy0
  rw [Int32.le_iff_toInt_le, e5] at hx5 hy5
  have e : (x - y).toInt = x.toInt - y.toInt := Jvm.Kit.i32_sub (by omega) (by omega)
  rw [vp_in_iff, Jvm.Kit.i32_add (by omega) (by omega), e, e5]
  omega
/-- the lowest bit is 0 or 1 -/
theorem tz_bit (y : Int32) : y &&& 1 = 0 ∨ y &&& 1 = 1 := by
  have h : (y &&& 1).toBitVec.toNat < 2 := by
    rw [Int32.toBitVec_and, BitVec.toNat_and]
    exact Nat.lt_of_le_of_lt Nat.and_le_right (by decide)
  have h2 : (y &&& 1).toBitVec.toNat = 0 ∨ (y &&& 1).toBitVec.toNat = 1 := by omega
  rcases h2 with h0 | h1
  · refine Or.inl (Int32.toBitVec_inj.mp (BitVec.eq_of_toNat_eq ?_))
    rw [h0]; decide
  · refine Or.inr (Int32.toBitVec_inj.mp (BitVec.eq_of_toNat_eq ?_))
    rw [h1]; decide
theorem tz_m1 (n : Nat) : nI (n + 1) + (-1) = nI n := by
  rw [← nI_1, Int32.add_assoc, show (1 : Int32) + (-1) = 0 from rfl, Int32.add_zero]
theorem tz_5 : nI 5 = 5 := by decide +kernel
theorem tz_6 : nI 6 = 6 := by decide +kernel
theorem tz_1 : nI 1 = 1 := by decide +kernel
theorem i_vc_setDiag {k : Nat} {u : SX} {v : SY} (I : i_Rel k u v) (hk : k + 3 ≤ 1536) (v1 : Int32) (v2 : Int32) : wpX_setDiag (fun r u' => wpY_setDiag (fun r' v' => r' = r ∧ i_Rel (k + 3) u' v') v v1 v2) u v1 v2 := by
  cases I
  by_cases h : v1 < (-5)
  · exact br_t h (br_t h ⟨rfl, rfl⟩)
  · by_cases h5 : v1 ≤ 5
    · have hi := tz_set h h5
      exact br_f h (br_t h5 ⟨hi, fun a ea => br_f h (br_t h5 ⟨hi, fun b eb => ⟨rfl, ea.trans eb.symm⟩⟩)⟩)
    · exact br_f h (br_f h5 (br_f h (br_f h5 ⟨rfl, rfl⟩)))
theorem i_vc_get {k : Nat} {u : SX} {v : SY} (I : i_Rel k u v) (hk : k + 3 ≤ 1536) (v1 : Int32) (v2 : Int32) : wpX_get (fun r => wpY_get (fun r' => r' = r ∧ i_Rel (k + 3) u v) v v1 v2) u v1 v2 := by
  cases I
  by_cases h0 : v1 < 0
  · exact br_t h0 (br_t h0 ⟨rfl, rfl⟩)
  · by_cases h5 : 5 < v1
    · exact br_f h0 (br_t h5 (br_f h0 (br_t h5 ⟨rfl, rfl⟩)))
    · by_cases g0 : v2 < 0
      · exact br_f h0 (br_f h5 (br_t g0 (br_f h0 (br_f h5 (br_t g0 ⟨rfl, rfl⟩)))))
      · by_cases g5 : v2 ≤ 5
        · have hi := tz_cell h0 (Int32.not_lt.mp h5) g0 g5
          exact br_f h0 (br_f h5 (br_f g0 (br_t g5 ⟨hi, br_f h0 (br_f h5 (br_f g0 (br_t g5 ⟨hi, ⟨rfl, rfl⟩⟩)))⟩)))
        · exact br_f h0 (br_f h5 (br_f g0 (br_f g5 (br_f h0 (br_f h5 (br_f g0 (br_f g5 ⟨rfl, rfl⟩)))))))
/-- the two sums over the mask's bits, in lockstep: one outcome for both -/
theorem tz_sum (a : Nat → Int32) (p m : Int32) (h0 : ¬ p < 0) (h5 : p ≤ 5) : ∀ d j : Nat, j + d = 6 → ∀ s : Int64, ∃ r : Int64, (∀ post : Int64 → Prop, post r → wX_mulAt_18 post p m a (d + 1) s (nI j)) ∧ (∀ post : Int64 → Prop, post r → wY_mulAt_18 post p m a (d + 1) s (nI j)) := by
  intro d
  induction d with
  | zero =>
    intro j hj s
    have e : j = 6 := by omega
    subst e
    have hX : (5 : Int32) < nI 6 := by rw [tz_6]; decide
    have hY : (6 : Int32) ≤ nI 6 := by rw [tz_6]; decide
    exact ⟨s, fun _ hp => br_t hX hp, fun _ hp => br_t hY hp⟩
  | succ d ih =>
    intro j hj s
    have hX : ¬ (5 : Int32) < nI j := by rw [← tz_5]; exact nI_nlt (by omega) (by omega)
    have hY : ¬ (6 : Int32) ≤ nI j := by rw [← tz_6]; exact nI_ge (by omega) (by omega)
    have hi : vp_in ((p - nI j) + 5) 11 := tz_cell h0 h5 (nI_pos (by omega)) (Int32.not_lt.mp hX)
    rcases tz_bit ((m.toUInt32 >>> ((nI j).toUInt32 &&& Int32.toUInt32 31)).toInt32) with z | z
    · have z1 : ¬ ((m.toUInt32 >>> ((nI j).toUInt32 &&& Int32.toUInt32 31)).toInt32) &&& 1 = 1 := by rw [z]; decide
      obtain ⟨r, kX, kY⟩ := ih (j + 1) (by omega) s
      refine ⟨r, fun post hp => br_f hX (br_f z1 fun y ey => ?_), fun post hp => br_f hY (br_t z fun y ey => ?_)⟩
      · rw [ey, nI_1]; exact kX post hp
      · rw [ey, nI_1]; exact kY post hp
    · have z0 : ¬ ((m.toUInt32 >>> ((nI j).toUInt32 &&& Int32.toUInt32 31)).toInt32) &&& 1 = 0 := by rw [z]; decide
      obtain ⟨r, kX, kY⟩ := ih (j + 1) (by omega) (s + ((a ((p - nI j) + 5).toNatClampNeg).toInt64))
      refine ⟨r, fun post hp => br_f hX (br_t z ⟨hi, fun t et y ey => ?_⟩), fun post hp => br_f hY (br_f z0 ⟨hi, fun t et y ey => ?_⟩)⟩
      · rw [ey, et, nI_1]; exact kX post hp
      · rw [ey, et, nI_1]; exact kY post hp
theorem i_vc_mulAt {k : Nat} {u : SX} {v : SY} (I : i_Rel k u v) (hk : k + 3 ≤ 1536) (v1 : Int32) (v2 : Int32) : wpX_mulAt (fun r => wpY_mulAt (fun r' => r' = r ∧ i_Rel (k + 3) u v) v v1 v2) u v1 v2 := by
  cases I
  by_cases h0 : v1 < 0
  · exact br_t h0 (br_t h0 ⟨rfl, rfl⟩)
  · by_cases h5 : v1 ≤ 5
    · obtain ⟨r, hX, hY⟩ := tz_sum u v1 v2 h0 h5 6 0 rfl 0
      rw [nI_0] at hX hY
      exact br_f h0 (br_t h5 ⟨_, hX _ (br_f h0 (br_t h5 ⟨_, hY _ ⟨rfl, rfl⟩⟩))⟩)
    · exact br_f h0 (br_f h5 (br_f h0 (br_f h5 ⟨rfl, rfl⟩)))
/-- the two shifts, in lockstep: one array for both -/
theorem tz_shift (x : Int32) : ∀ d : Nat, d ≤ 10 → ∀ a : Nat → Int32, ∃ a' : Nat → Int32, (∀ post : Int32 → SX → Prop, post x a' → wX_shiftDown_11 post x (d + 1) (nI d) a) ∧ (∀ post : Int32 → SY → Prop, post x a' → wY_shiftDown_13 post x (d + 1) (nI d) a) := by
  intro d
  induction d with
  | zero =>
    intro _ a
    have hX : nI 0 < (1 : Int32) := by rw [nI_0]; decide
    have hY : nI 0 ≤ (0 : Int32) := by rw [nI_0]; decide
    refine ⟨upd a 0 0, fun post hp => br_t hX fun b eb => ?_, fun post hp => br_t hY fun b eb => ?_⟩
    · rw [eb]; exact hp
    · rw [eb]; exact hp
  | succ d ih =>
    intro hd a
    have hX : ¬ nI (d + 1) < (1 : Int32) := by rw [← tz_1]; exact nI_nlt (by omega) (by omega)
    have hY : ¬ nI (d + 1) ≤ (0 : Int32) := nI_nle (by omega) (by omega)
    have i1 : vp_in (nI (d + 1) - 1) 11 := by rw [nI_pred]; exact vp_in_nI (by omega) (by omega)
    have i2 : vp_in (nI (d + 1)) 11 := vp_in_nI (by omega) (by omega)
    obtain ⟨a', kX, kY⟩ := ih (by omega) (upd a (nI (d + 1)).toNatClampNeg (a (nI (d + 1) - 1).toNatClampNeg))
    refine ⟨a', fun post hp => br_f hX ⟨i1, i2, fun b eb y ey => ?_⟩, fun post hp => br_f hY ⟨i1, i2, fun b eb y ey => ?_⟩⟩
    · rw [ey, eb, tz_m1]; exact kX post hp
    · rw [ey, eb, tz_m1]; exact kY post hp
theorem tz_10 : nI 10 = 10 := by decide +kernel
theorem i_vc_shiftDown {k : Nat} {u : SX} {v : SY} (I : i_Rel k u v) (hk : k + 3 ≤ 1536) : wpX_shiftDown (fun r u' => wpY_shiftDown (fun r' v' => r' = r ∧ i_Rel (k + 3) u' v') v) u := by
  cases I
  intro x ex
  obtain ⟨a, hX, hY⟩ := tz_shift x 10 (by omega) u
  rw [tz_10] at hX hY
  refine ⟨_, hX _ ?_⟩
  intro y ey
  cases ey.trans ex.symm
  exact ⟨_, hY _ ⟨rfl, rfl⟩⟩
end
