section
/-! plain facts about longs: the shift by 16 is the reference's floor division; clamped longs come back whole from an int -/
theorem vq_K : (65536 : Int64).toInt = 65536 := by decide
theorem vq_0 : (0 : Int64).toInt = 0 := by decide
theorem vq_1 : (1 : Int64).toInt = 1 := by decide
theorem vq_H : (536870912 : Int64).toInt = 536870912 := by decide
theorem vq_L : (-536870912 : Int64).toInt = -536870912 := by decide
theorem vq_LH : (-536870912 : Int64) ≤ 536870912 := by rw [Int64.le_iff_toInt_le, vq_L, vq_H]; omega
theorem vq_bm {z : Int} (h1 : -9223372036854775808 ≤ z) (h2 : z < 9223372036854775808) : z.bmod (2 ^ 64) = z :=
  Int.bmod_eq_of_le (by omega) (by omega)
theorem vq_lo (x : Int64) : -9223372036854775808 ≤ x.toInt := x.le_toInt
theorem vq_hi (x : Int64) : x.toInt < 9223372036854775808 := x.toInt_lt
theorem vq_sc : (((16 : Int32).toInt64 &&& 63).toBitVec.smod 64).toNat = 16 := by decide
theorem vq_sh (x : Int64) : (x >>> ((16 : Int32).toInt64 &&& 63)).toInt = x.toInt / 65536 := by
  show (x.toBitVec.sshiftRight (((16 : Int32).toInt64 &&& 63).toBitVec.smod 64).toNat).toInt = _
  rw [vq_sc, BitVec.toInt_sshiftRight, Int.shiftRight_eq_div_pow]
  rfl
theorem vq_dv (x : Int64) : (x / 65536).toInt = x.toInt.tdiv 65536 := by
  rw [Int64.toInt_div_of_ne_right _ _ (by decide), vq_K]
theorem vq_td (a : Int) : (0 ≤ a ∧ a.tdiv 65536 = a / 65536) ∨ (a < 0 ∧ a.tdiv 65536 = -((-a) / 65536)) := by
  rcases Int.lt_or_le a 0 with h | h
  · refine Or.inr ⟨h, ?_⟩
    have e : a.tdiv 65536 = -((-a).tdiv 65536) := by rw [Int.neg_tdiv, Int.neg_neg]
    rw [e, Int.tdiv_eq_ediv_of_nonneg (by omega)]
  · exact Or.inl ⟨h, Int.tdiv_eq_ediv_of_nonneg h⟩
/-- the remainder by a truncating division, over plain ints -/
theorem vq_pl {a q : Int} (h : (0 ≤ a ∧ q = a / 65536) ∨ (a < 0 ∧ q = -((-a) / 65536))) (h1 : -9223372036854775808 ≤ a) (h2 : a < 9223372036854775808) :
    (-9223372036854775808 ≤ q * 65536 ∧ q * 65536 < 9223372036854775808) ∧ (-9223372036854775808 ≤ a - q * 65536 ∧ a - q * 65536 < 9223372036854775808)
    ∧ (-9223372036854775808 ≤ q - 1 ∧ q - 1 < 9223372036854775808)
    ∧ (0 ≤ a - q * 65536 → a / 65536 = q) ∧ (¬ 0 ≤ a - q * 65536 → a / 65536 = q - 1) := by
  refine ⟨⟨?_, ?_⟩, ⟨?_, ?_⟩, ⟨?_, ?_⟩, ?_, ?_⟩ <;> omega
theorem vq_rm (x : Int64) : (x - x / 65536 * 65536).toInt = x.toInt - x.toInt.tdiv 65536 * 65536 := by
  have p := vq_pl (vq_td x.toInt) (vq_lo x) (vq_hi x)
  rw [Int64.toInt_sub, Int64.toInt_mul, vq_dv, vq_K, vq_bm p.1.1 p.1.2, vq_bm p.2.1.1 p.2.1.2]
/-- the shift by 16, as the reference reckons it: no bound on x is asked -/
theorem vq_ft {x : Int64} (h : 0 ≤ x - x / 65536 * 65536) : x / 65536 = x >>> ((16 : Int32).toInt64 &&& 63) := by
  have p := vq_pl (vq_td x.toInt) (vq_lo x) (vq_hi x)
  rw [Int64.le_iff_toInt_le, vq_rm, vq_0] at h
  apply Int64.toInt_inj.mp
  rw [vq_sh, vq_dv, p.2.2.2.1 h]
theorem vq_ff {x : Int64} (h : ¬ 0 ≤ x - x / 65536 * 65536) : x / 65536 - 1 = x >>> ((16 : Int32).toInt64 &&& 63) := by
  have p := vq_pl (vq_td x.toInt) (vq_lo x) (vq_hi x)
  rw [Int64.le_iff_toInt_le, vq_rm, vq_0] at h
  apply Int64.toInt_inj.mp
  rw [vq_sh, Int64.toInt_sub, vq_dv, vq_1, vq_bm p.2.2.1.1 p.2.2.1.2, p.2.2.2.2 h]
/-- a clamped long comes back whole from an int -/
theorem vq_back {n : Int64} (h1 : -536870912 ≤ n) (h2 : n ≤ 536870912) : n.toInt32.toInt64 = n := by
  rw [Int64.le_iff_toInt_le, vq_L] at h1
  rw [Int64.le_iff_toInt_le, vq_H] at h2
  apply Int64.toInt_inj.mp
  rw [Int32.toInt_toInt64, Int64.toInt_toInt32]
  exact Int.bmod_eq_of_le (by omega) (by omega)
/-- the clamp of both sides -/
def vq_cl (n : Int64) : Int64 := if n ≤ 536870912 then (if -536870912 ≤ n then n else -536870912) else 536870912
theorem vq_cl1 {n : Int64} (h1 : n ≤ 536870912) (h2 : -536870912 ≤ n) : vq_cl n = n := by unfold vq_cl; rw [if_pos h1, if_pos h2]
theorem vq_cl2 {n : Int64} (h1 : n ≤ 536870912) (h2 : ¬ -536870912 ≤ n) : vq_cl n = -536870912 := by unfold vq_cl; rw [if_pos h1, if_neg h2]
theorem vq_cl3 {n : Int64} (h1 : ¬ n ≤ 536870912) : vq_cl n = 536870912 := by unfold vq_cl; rw [if_neg h1]
theorem vq_clb (n : Int64) : (vq_cl n).toInt32.toInt64 = vq_cl n := by
  by_cases h1 : n ≤ 536870912
  · by_cases h2 : -536870912 ≤ n
    · rw [vq_cl1 h1 h2]; exact vq_back h2 h1
    · rw [vq_cl2 h1 h2]; exact vq_back (Int64.le_refl _) vq_LH
  · rw [vq_cl3 h1]; exact vq_back vq_LH (Int64.le_refl _)
/-- an int's comparisons, read off its long -/
theorem vq_i0 : (0 : Int32).toInt64 = 0 := by decide
theorem vq_iK : (65536 : Int32).toInt64 = 65536 := by decide
theorem vq_iH : (536870912 : Int32).toInt64 = 536870912 := by decide
theorem vq_iL : (-536870912 : Int32).toInt64 = -536870912 := by decide
theorem vq_le0 {x : Int32} : 0 ≤ x.toInt64 ↔ 0 ≤ x := by rw [← vq_i0]; exact Int32.toInt64_le
theorem vq_leK {x : Int32} : x.toInt64 ≤ 65536 ↔ x ≤ 65536 := by rw [← vq_iK]; exact Int32.toInt64_le
theorem vq_leH {x : Int32} : x.toInt64 ≤ 536870912 ↔ x ≤ 536870912 := by rw [← vq_iH]; exact Int32.toInt64_le
theorem vq_leL {x : Int32} : -536870912 ≤ x.toInt64 ↔ -536870912 ≤ x := by rw [← vq_iL]; exact Int32.toInt64_le
end
section
/-- the reference holds the component's three ints, as longs -/
def i_Rel (_ : Nat) (u : SX) (v : SY) : Prop := v = (u.1.toInt64, u.2.1.toInt64, u.2.2.toInt64)
theorem vq_rel {k : Nat} {d c p : Int32} {d' c' p' : Int64} (h1 : d.toInt64 = d') (h2 : c.toInt64 = c') (h3 : p.toInt64 = p') : i_Rel k (d, c, p) (d', c', p') := by
  subst h1 h2 h3; rfl
theorem vq_X {post : Int32 → SX → Prop} {n : Int64} {d c p : Int32} (h : post (vq_cl n).toInt32 (d, (vq_cl n).toInt32, c)) :
    (n ≤ 536870912 → wX_push_51 post n d c p) ∧ (¬ n ≤ 536870912 → wX_push_51 post 536870912 d c p) := by
  unfold wX_push_51 wX_push_65
  by_cases h1 : n ≤ 536870912
  · refine br_t h1 ?_
    by_cases h2 : -536870912 ≤ n
    · rw [vq_cl1 h1 h2] at h
      exact br_t h2 h
    · rw [vq_cl2 h1 h2] at h
      exact br_f h2 h
  · rw [vq_cl3 h1] at h
    exact br_f h1 (br_t vq_LH h)
theorem vq_Y {post : Int32 → SY → Prop} {n : Int64} {d c p : Int64} (h : post (vq_cl n).toInt32 (d, vq_cl n, c)) :
    (n ≤ 536870912 → wY_push_64 post n d c p) ∧ (¬ n ≤ 536870912 → wY_push_64 post 536870912 d c p) := by
  unfold wY_push_64 wY_push_78
  by_cases h1 : n ≤ 536870912
  · refine br_t h1 ?_
    by_cases h2 : -536870912 ≤ n
    · rw [vq_cl1 h1 h2] at h
      exact br_t h2 h
    · rw [vq_cl2 h1 h2] at h
      exact br_f h2 h
  · rw [vq_cl3 h1] at h
    exact br_f h1 (br_t vq_LH h)
theorem vq_Ypush {post : Int32 → SY → Prop} {d c p : Int64} {a : Int32} {n : Int64} (hn : n = (c + (d * (c - p)) >>> ((16 : Int32).toInt64 &&& 63)) + a.toInt64)
    (h : post (vq_cl n).toInt32 (d, vq_cl n, c)) : wpY_push post (d, c, p) a := by
  have hz : ¬ (65536 : Int64) = 0 := by decide
  intro x2 e2
  refine And.intro hz ?_
  intro x4 e4
  refine And.intro hz ?_
  by_cases hr : 0 ≤ x2 - x2 / 65536 * 65536
  · refine br_t hr ?_
    intro x6 e6
    have e : x6 = n := by rw [e6, e4, vq_ft hr, e2, hn]
    rw [e]
    exact vq_Y h
  · refine br_f hr ?_
    intro x9 e9 x6 e6
    have e : x6 = n := by rw [e6, e9, e4, vq_ff hr, e2, hn]
    rw [e]
    exact vq_Y h
theorem i_up {k : Nat} {u : SX} {v : SY} (h : i_Rel k u v) : i_Rel (k + 2) u v := h
theorem i_vc0 (k0 : Int32) : wpX_init (fun u => wpY_init (fun v => i_Rel 1 u v) k0) k0 := by
  by_cases h0 : 0 ≤ k0
  · by_cases h1 : k0 ≤ 65536
    · exact br_t h0 (br_t h1 (br_t (vq_le0.mpr h0) (br_t (vq_leK.mpr h1) (vq_rel rfl vq_i0 vq_i0))))
    · exact br_t h0 (br_f h1 (br_t (vq_le0.mpr h0) (br_f (mt vq_leK.mp h1) (vq_rel vq_iK vq_i0 vq_i0))))
  · exact br_f h0 (br_t (by decide) (br_f (mt vq_le0.mp h0) (br_t (by decide) (vq_rel vq_i0 vq_i0 vq_i0))))
theorem i_vc_push {k : Nat} {u : SX} {v : SY} (I : i_Rel k u v) (hk : k + 2 ≤ 1025) (v1 : Int32) : wpX_push (fun r u' => wpY_push (fun r' v' => r' = r ∧ i_Rel (k + 2) u' v') v v1) u v1 := by
  obtain ⟨d, c, p⟩ := u
  have I' : v = (d.toInt64, c.toInt64, p.toInt64) := I
  subst I'
  intro x2 e2 x4 e4 x6 e6
  exact vq_X (vq_Ypush (n := x6) (by rw [e6, e4, e2]) (And.intro rfl (vq_rel rfl (vq_clb x6) rfl)))
theorem i_vc_pin {k : Nat} {u : SX} {v : SY} (I : i_Rel k u v) (hk : k + 2 ≤ 1025) (v1 : Int32) : wpX_pin (fun r u' => wpY_pin (fun r' v' => r' = r ∧ i_Rel (k + 2) u' v') v v1) u v1 := by
  obtain ⟨d, c, p⟩ := u
  have I' : v = (d.toInt64, c.toInt64, p.toInt64) := I
  subst I'
  by_cases h1 : v1 ≤ 536870912
  · by_cases h2 : -536870912 ≤ v1
    · exact br_t h1 (br_t h2 (br_t (vq_leH.mpr h1) (br_t (vq_leL.mpr h2) (And.intro (Int32.toInt32_toInt64 v1) (vq_rel rfl rfl rfl)))))
    · exact br_t h1 (br_f h2 (br_t (vq_leH.mpr h1) (br_f (mt vq_leL.mp h2) (And.intro (by decide) (vq_rel rfl vq_iL vq_iL)))))
  · exact br_f h1 (br_t (by decide) (br_f (mt vq_leH.mp h1) (br_t vq_LH (And.intro (by decide) (vq_rel rfl vq_iH vq_iH)))))
theorem i_vc_pos {k : Nat} {u : SX} {v : SY} (I : i_Rel k u v) (hk : k + 2 ≤ 1025) : wpX_pos (fun r => wpY_pos (fun r' => r' = r ∧ i_Rel (k + 2) u v) v) u := by
  obtain ⟨d, c, p⟩ := u
  have I' : v = (d.toInt64, c.toInt64, p.toInt64) := I
  subst I'
  exact And.intro (Int32.toInt32_toInt64 c) I
theorem i_vc_speed {k : Nat} {u : SX} {v : SY} (I : i_Rel k u v) (hk : k + 2 ≤ 1025) : wpX_speed (fun r => wpY_speed (fun r' => r' = r ∧ i_Rel (k + 2) u v) v) u := by
  obtain ⟨d, c, p⟩ := u
  have I' : v = (d.toInt64, c.toInt64, p.toInt64) := I
  subst I'
  exact And.intro (by rw [Int64.toInt32_sub, Int32.toInt32_toInt64, Int32.toInt32_toInt64]) I
end
