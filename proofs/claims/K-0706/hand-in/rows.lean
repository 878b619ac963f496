section
/-- cell numbers: any int under the mask 7 is an index below 8 -/
theorem id_and (y : Int32) : vp_in (y &&& 7) 8 := by
  have h : (y &&& 7).toBitVec.toNat < 8 := by
    rw [Int32.toBitVec_and, BitVec.toNat_and]
    exact Nat.lt_of_le_of_lt Nat.and_le_right (by decide)
  have e : (y &&& 7).toInt = (y &&& 7).toBitVec.toInt := rfl
  rw [vp_in_iff, e, BitVec.toInt_eq_toNat_of_lt (by omega)]
  omega
/-- a stored long is read back -/
theorem id_us (f : Nat → Int64) (k : Nat) (x : Int64) : vp_updL f k x k = x := if_pos rfl
/-- index below 2^32, factor within 2^30 .. 2^31: the product is at least 2^60 and doesn't overflow -/
theorem id_prod {x y : Int} (h1 : 1073741824 ≤ x) (h2 : x < 4294967296) (h3 : 1073741824 ≤ y) (h4 : y ≤ 2147483648) : 1152921504606846976 ≤ x * y ∧ x * y < 2 ^ 63 := by
  constructor
  · have h : (1073741824 : Int) * 1073741824 ≤ x * y := Int.mul_le_mul h1 h3 (by decide) (by omega)
    generalize x * y = m at h ⊢
    omega
  · have h : x * y ≤ (4294967295 : Int) * 2147483648 := Int.mul_le_mul (by omega) h4 (by omega) (by decide)
    generalize x * y = m at h ⊢
    omega
/-- a growing tick keeps the index at 2^30 or above -/
theorem id_step {x : Int64} {p : Int32} (h : (1073741824 : Int) ≤ x.toInt) (hx : x < 4294967296) (p0 : ¬ p < 0) (p1 : p ≤ 1073741824) : (1073741824 : Int) ≤ ((x * (1073741824 + p.toInt64)) >>> ((30 : Int32).toInt64 &&& 63)).toInt := by
  have e1 : (4294967296 : Int64).toInt = 4294967296 := by decide
  have e2 : (1073741824 : Int64).toInt = 1073741824 := by decide
  have e3 : (1073741824 : Int32).toInt = 1073741824 := by decide
  have e4 : (0 : Int32).toInt = 0 := by decide
  rw [Int64.lt_iff_toInt_lt, e1] at hx
  rw [Int32.lt_iff_toInt_lt, e4] at p0
  rw [Int32.le_iff_toInt_le, e3] at p1
  have ep : p.toInt64.toInt = p.toInt := Int32.toInt_toInt64 p
  have es : (1073741824 + p.toInt64 : Int64).toInt = 1073741824 + p.toInt := by
    rw [Jvm.Kit.i64_add (by rw [e2, ep]; omega) (by rw [e2, ep]; omega), e2, ep]
  have hp := id_prod (x := x.toInt) (y := 1073741824 + p.toInt) h hx (by omega) (by omega)
  have em : (x * (1073741824 + p.toInt64)).toInt = x.toInt * (1073741824 + p.toInt) := by
    rw [Jvm.Kit.i64_mul (by rw [es]; exact Int.le_trans (by decide) hp.1) (by rw [es]; exact hp.2), es]
  rw [Jvm.Kit.i64_shr _ _ (k := 30) (by decide), em]
  generalize x.toInt * (1073741824 + p.toInt) = m at hp ⊢
  omega
/-- an index of 2^30 or above is no zero divisor -/
theorem id_ne0 {x : Int64} (h : (1073741824 : Int) ≤ x.toInt) : ¬ x = 0 := by
  intro e
  rw [e] at h
  exact absurd h (by decide)
theorem id_start : (1073741824 : Int) ≤ (1073741824 : Int64).toInt := by decide
end
section
/-- the two states are the same, and the index is 2^30 or above -/
def i_Rel (k : Nat) (u : SX) (v : SY) : Prop := u = v ∧ (1073741824 : Int) ≤ u.1.toInt
theorem i_up {k : Nat} {u : SX} {v : SY} (h : i_Rel k u v) : i_Rel (k + 4) u v := h
theorem i_vc0 : wpX_init (fun u => wpY_init (fun v => i_Rel 0 u v)) := ⟨rfl, id_start⟩
theorem i_vc_tick {k : Nat} {u : SX} {v : SY} (I : i_Rel k u v) (hk : k + 4 ≤ 2048) (v1 : Int32) : wpX_tick (fun r u' => wpY_tick (fun r' v' => r' = r ∧ i_Rel (k + 4) u' v') v v1) u v1 := by
  obtain ⟨e, hl⟩ := I
  subst e
  obtain ⟨f, a⟩ := u
  have hl : (1073741824 : Int) ≤ f.toInt := hl
  unfold wpX_tick wpY_tick
  dsimp only
  refine br_c (fun h0 => br_t h0 ⟨rfl, rfl, hl⟩) fun h0 => br_c (fun h1 => br_c (fun h2 y ey => br_f h0 (br_t h1 (br_t h2 fun z ez => ?_))) fun h2 => br_f h0 (br_t h1 (br_f h2 ⟨rfl, rfl, hl⟩))) fun h1 => br_f h0 (br_f h1 ⟨rfl, rfl, hl⟩)
  subst ey
  subst ez
  exact ⟨rfl, rfl, id_step hl h2 h0 h1⟩
theorem i_vc_deposit {k : Nat} {u : SX} {v : SY} (I : i_Rel k u v) (hk : k + 4 ≤ 2048) (v1 : Int32) (a1 : Int64) : wpX_deposit (fun r u' => wpY_deposit (fun r' v' => r' = r ∧ i_Rel (k + 4) u' v') v v1 a1) u v1 a1 := by
  obtain ⟨e, hl⟩ := I
  subst e
  obtain ⟨f, a⟩ := u
  have hl : (1073741824 : Int) ≤ f.toInt := hl
  have hf : ¬ f = 0 := id_ne0 hl
  unfold wpX_deposit wpY_deposit
  dsimp only
  refine br_c (fun h0 => br_t h0 ⟨rfl, rfl, hl⟩) fun h0 => br_c (fun h1 x ex => ?_) fun h1 => br_f h0 (br_f h1 ⟨rfl, rfl, hl⟩)
  subst ex
  refine ⟨id_and _, hf, id_and _, fun b eb => ⟨id_and _, br_f h0 (br_t h1 ⟨id_and _, hf, id_and _, fun d ed => ?_⟩)⟩⟩
  subst eb
  subst ed
  exact ⟨(id_us _ _ _).symm, rfl, hl⟩
theorem i_vc_balance {k : Nat} {u : SX} {v : SY} (I : i_Rel k u v) (hk : k + 4 ≤ 2048) (v1 : Int32) : wpX_balance (fun r => wpY_balance (fun r' => r' = r ∧ i_Rel (k + 4) u v) v v1) u v1 := by
  obtain ⟨e, hl⟩ := I
  subst e
  obtain ⟨f, a⟩ := u
  exact ⟨id_and _, id_and _, rfl, rfl, hl⟩
theorem i_vc_index {k : Nat} {u : SX} {v : SY} (I : i_Rel k u v) (hk : k + 4 ≤ 2048) : wpX_index (fun r => wpY_index (fun r' => r' = r ∧ i_Rel (k + 4) u v) v) u := by
  obtain ⟨e, hl⟩ := I
  subst e
  obtain ⟨f, a⟩ := u
  exact ⟨rfl, rfl, hl⟩
end
