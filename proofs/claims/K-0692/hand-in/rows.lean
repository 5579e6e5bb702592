section
/-- the two objects hold the same five fields -/
def i_Rel (_ : Nat) (u : SX) (v : SY) : Prop := u = v
theorem i_up {k : Nat} {u : SX} {v : SY} (h : i_Rel k u v) : i_Rel (k + 3) u v := h
theorem i_vc0 : wpX_init (fun u => wpY_init (fun v => i_Rel 0 u v)) := rfl
theorem cy_m1 (n : Nat) : nI (n + 1) + (-1) = nI n := by
  rw [← nI_1, Int32.add_assoc, show (1 : Int32) + (-1) = 0 from rfl, Int32.add_zero]
theorem cy_31 : nI 31 = 31 := by decide +kernel
theorem cy_11 : ((1000000 : Int64) <<< ((nI 11).toInt64 &&& 63)) = lN 2048000000 := by decide +kernel
theorem cy_max : (2147483647 : Int64).toInt = 2147483647 := by decide +kernel
/-- an int that is at least 1, widened -/
theorem cy_pos {x : Int32} (h : 1 ≤ x) : 1 ≤ x.toInt64.toInt := by
  rw [Int32.le_iff_toInt_le] at h
  have h1 : (1 : Int32).toInt = 1 := by decide
  rw [Int32.toInt_toInt64]
  omega
theorem cy_ne {x : Int32} (h : 1 ≤ x) : ¬ x.toInt64 = 0 := by
  intro q
  have a := cy_pos h
  rw [q] at a
  exact absurd a (by decide)
/-- at a shift of 11 the quotient fits: both scans stop there at the latest -/
theorem cy_stop {x : Int32} (h : 1 ≤ x) : ((1000000 : Int64) <<< ((nI 11).toInt64 &&& 63)) / x.toInt64 ≤ 2147483647 := by
  have a := cy_pos h
  have e : (lN 2048000000).toInt = 2048000000 := lN_toInt (by decide)
  rw [cy_11, Int64.le_iff_toInt_le, lg_ldiv_nonneg (by rw [e]; decide) (by omega), e, cy_max]
  exact Int.le_trans (Int.ediv_le_self _ (by decide)) (by decide)
/-- both scans, from the shift 11 + d down: one shift r and one quotient's low word m for both -/
theorem cy_scan {x : Int32} (h1 : 1 ≤ x) (x4 : Int32) (x5 : Int64) (f_mult f_shift : Int32) (f_last f_ns f_frac : Int64) : ∀ d : Nat, d ≤ 20 → ∃ (r m : Int32),
    (∀ post : Int32 → SX → Prop, post r (m, r, f_last, f_ns, 0) → wX_calibrate_24 post x.toInt64 x4 x5 f_mult f_shift f_last f_ns f_frac (d + 1) (nI (11 + d))) ∧
    (∀ post : Int32 → SY → Prop, post r (m, r, f_last, f_ns, 0) → wY_calibrate_10 post x f_mult f_shift f_last f_ns f_frac (d + 1) (nI (11 + d))) := by
  have z := cy_ne h1
  intro d
  induction d with
  | zero =>
    intro _
    have q : ((1000000 : Int64) <<< ((nI (11 + 0)).toInt64 &&& 63)) / x.toInt64 ≤ 2147483647 := cy_stop h1
    exact ⟨nI (11 + 0), _, fun _ hp => br_f (nI_pos (by decide)) ⟨z, nm_e (br_f (Int64.not_lt.mpr q) hp)⟩, fun _ hp => ⟨z, br_t q ⟨z, nm_e hp⟩⟩⟩
  | succ d ih =>
    intro hd
    have hn : ¬ nI (11 + (d + 1)) < 0 := nI_pos (by omega)
    by_cases q : ((1000000 : Int64) <<< ((nI (11 + (d + 1))).toInt64 &&& 63)) / x.toInt64 ≤ 2147483647
    · exact ⟨nI (11 + (d + 1)), _, fun _ hp => br_f hn ⟨z, nm_e (br_f (Int64.not_lt.mpr q) hp)⟩, fun _ hp => ⟨z, br_t q ⟨z, nm_e hp⟩⟩⟩
    · obtain ⟨r, m, hX, hY⟩ := ih (by omega)
      have e : nI (11 + (d + 1)) + (-1) = nI (11 + d) := cy_m1 (11 + d)
      exact ⟨r, m, fun post hp => br_f hn ⟨z, nm_e (br_t (Int64.not_le.mp q) (nm_r e (hX post hp)))⟩, fun post hp => ⟨z, br_f q (nm_r e (hY post hp))⟩⟩
theorem i_vc_calibrate {k : Nat} {u : SX} {v : SY} (I : i_Rel k u v) (hk : k + 3 ≤ 1536) (v1 : Int32) : wpX_calibrate (fun r u' => wpY_calibrate (fun r' v' => r' = r ∧ i_Rel (k + 3) u' v') v v1) u v1 := by
  cases I
  obtain ⟨f_mult, f_shift, f_last, f_ns, f_frac⟩ := u
  by_cases h1 : 1 ≤ v1
  · refine br_t h1 ⟨cy_ne h1, fun x5 _ => ?_⟩
    obtain ⟨r, m, hX, hY⟩ := cy_scan h1 0 x5 f_mult f_shift f_last f_ns f_frac 20 (by decide)
    rw [show nI (11 + 20) = 31 from cy_31] at hX hY
    exact ⟨_, hX _ (br_t h1 ⟨_, hY _ ⟨rfl, rfl⟩⟩)⟩
  · exact br_f h1 (br_f h1 ⟨rfl, rfl⟩)
theorem i_vc_update {k : Nat} {u : SX} {v : SY} (I : i_Rel k u v) (hk : k + 3 ≤ 1536) (a0 : Int64) : wpX_update (fun r u' => wpY_update (fun r' v' => r' = r ∧ i_Rel (k + 3) u' v') v a0) u a0 := by
  cases I
  obtain ⟨f_mult, f_shift, f_last, f_ns, f_frac⟩ := u
  exact nm_e (nm_e (nm_e (nm_e (nm_e (nm_e (nm_e ⟨rfl, rfl⟩))))))
theorem i_vc_now {k : Nat} {u : SX} {v : SY} (I : i_Rel k u v) (hk : k + 3 ≤ 1536) : wpX_now (fun r => wpY_now (fun r' => r' = r ∧ i_Rel (k + 3) u v) v) u := by
  cases I
  obtain ⟨f_mult, f_shift, f_last, f_ns, f_frac⟩ := u
  exact ⟨rfl, rfl⟩
theorem i_vc_mult {k : Nat} {u : SX} {v : SY} (I : i_Rel k u v) (hk : k + 3 ≤ 1536) : wpX_mult (fun r => wpY_mult (fun r' => r' = r ∧ i_Rel (k + 3) u v) v) u := by
  cases I
  obtain ⟨f_mult, f_shift, f_last, f_ns, f_frac⟩ := u
  exact ⟨rfl, rfl⟩
end
