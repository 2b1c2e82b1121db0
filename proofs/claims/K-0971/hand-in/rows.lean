section
/-- the table as X's constructor leaves it -/
def sp_tab : Nat → Int32 := upd (upd (upd (upd (upd (upd (upd (upd (fun _ => 0) 0 (vp_nar .byte 1)) 1 (vp_nar .byte 3)) 2 (vp_nar .byte 2)) 3 (vp_nar .byte 6)) 4 (vp_nar .byte 4)) 5 (vp_nar .byte 12)) 6 (vp_nar .byte 8)) 7 (vp_nar .byte 9)
/-- the phase that belongs to a long position -/
def sp_ix (p : Int64) : Nat := p.toInt32.toBitVec.toNat % 8
theorem sp_ix_lt (p : Int64) : sp_ix p < 8 := Nat.mod_lt _ (by decide)
theorem sp_m7 (a : Nat) : a &&& 7 = a % 8 := Nat.and_two_pow_sub_one_eq_mod a 3
theorem sp_l7 : (7 : Int32).toBitVec.toNat = 7 := by decide +kernel
theorem sp_and (x : Int32) : x &&& 7 = nI (x.toBitVec.toNat % 8) := by
  apply Int32.toBitVec_inj.mp
  apply BitVec.eq_of_toNat_eq
  rw [Int32.toBitVec_and, BitVec.toNat_and, sp_l7, sp_m7]
  show _ = (BitVec.ofNat 32 _).toNat
  rw [BitVec.toNat_ofNat]
  exact (Nat.mod_eq_of_lt (Nat.lt_of_le_of_lt (Nat.mod_le _ _) x.toBitVec.isLt)).symm
theorem sp_c7 : (7 : Int64).toInt32 = 7 := by decide +kernel
/-- Y's index -/
theorem sp_yix (p : Int64) : (p &&& 7).toInt32 = nI (sp_ix p) := by
  rw [Int64.toInt32_and, sp_c7, sp_and]; exact rfl
theorem sp_pos (p : Int64) (s : Int32) : p.toInt32 + s = (p + s.toInt64).toInt32 := by
  rw [Int64.toInt32_add, Int32.toInt32_toInt64]
theorem sp_nat (a b : Nat) : (a % 8 + b) % 2 ^ 32 % 8 = (a + b) % 2 ^ 32 % 8 := by omega
/-- X's new phase -/
theorem sp_xix (p : Int64) (s : Int32) : (nI (sp_ix p) + s) &&& 7 = nI (sp_ix (p + s.toInt64)) := by
  rw [sp_and]
  refine congrArg nI ?_
  show _ = (p + s.toInt64).toInt32.toBitVec.toNat % 8
  rw [← sp_pos, Int32.toBitVec_add, Int32.toBitVec_add, BitVec.toNat_add, BitVec.toNat_add, ← sp_nat p.toInt32.toBitVec.toNat]
  have e : (nI (sp_ix p)).toBitVec.toNat = p.toInt32.toBitVec.toNat % 8 := by
    show (BitVec.ofNat 32 _).toNat = _
    rw [BitVec.toNat_ofNat]
    exact Nat.mod_eq_of_lt (Nat.lt_of_lt_of_le (sp_ix_lt p) (by decide))
  rw [e]
end
section
theorem sp_t0 : sp_tab 0 = 1 := by decide +kernel
theorem sp_t1 : sp_tab 1 = 3 := by decide +kernel
theorem sp_t2 : sp_tab 2 = 2 := by decide +kernel
theorem sp_t3 : sp_tab 3 = 6 := by decide +kernel
theorem sp_t4 : sp_tab 4 = 4 := by decide +kernel
theorem sp_t5 : sp_tab 5 = 12 := by decide +kernel
theorem sp_t6 : sp_tab 6 = 8 := by decide +kernel
theorem sp_t7 : sp_tab 7 = 9 := by decide +kernel
/-- Y's switch reads what X's table holds -/
theorem sp_coil {post : Int32 → Prop} {q : Int64} {e : Int32} {j : Nat} (hj : j < 8) (h : post (sp_tab j)) : wpY_coil post (q, e) (nI j) := by
  have c : j = 0 ∨ j = 1 ∨ j = 2 ∨ j = 3 ∨ j = 4 ∨ j = 5 ∨ j = 6 ∨ j = 7 := by omega
  rcases c with rfl | rfl | rfl | rfl | rfl | rfl | rfl | rfl
  · rw [sp_t0] at h
    exact br_f (by decide +kernel) (br_f (by decide +kernel) (br_t (by decide +kernel) h))
  · rw [sp_t1] at h
    exact br_f (by decide +kernel) (br_f (by decide +kernel) (br_f (by decide +kernel) (br_t (by decide +kernel) h)))
  · rw [sp_t2] at h
    exact br_f (by decide +kernel) (br_f (by decide +kernel) (br_f (by decide +kernel) (br_f (by decide +kernel) (br_t (by decide +kernel) h))))
  · rw [sp_t3] at h
    exact br_f (by decide +kernel) (br_f (by decide +kernel) (br_f (by decide +kernel) (br_f (by decide +kernel) (br_f (by decide +kernel) (br_t (by decide +kernel) h)))))
  · rw [sp_t4] at h
    exact br_f (by decide +kernel) (br_f (by decide +kernel) (br_f (by decide +kernel) (br_f (by decide +kernel) (br_f (by decide +kernel) (br_f (by decide +kernel) (br_t (by decide +kernel) h))))))
  · rw [sp_t5] at h
    exact br_f (by decide +kernel) (br_f (by decide +kernel) (br_f (by decide +kernel) (br_f (by decide +kernel) (br_f (by decide +kernel) (br_f (by decide +kernel) (br_f (by decide +kernel) (br_t (by decide +kernel) h)))))))
  · rw [sp_t6] at h
    exact br_f (by decide +kernel) (br_f (by decide +kernel) (br_f (by decide +kernel) (br_f (by decide +kernel) (br_f (by decide +kernel) (br_f (by decide +kernel) (br_f (by decide +kernel) (br_f (by decide +kernel) (br_t (by decide +kernel) h))))))))
  · rw [sp_t7] at h
    exact br_f (by decide +kernel) (br_t (by decide +kernel) h)
theorem sp_X {post : Int32 → SX → Prop} {s : Int32} {p : Int64} {e : Int32} (h : post (sp_tab (sp_ix (p + s.toInt64))) (nI (sp_ix (p + s.toInt64)), (p + s.toInt64).toInt32, e, sp_tab)) : wX_step_29 post s (nI (sp_ix p)) p.toInt32 e sp_tab := by
  intro f hf g hg
  rw [hf, hg, sp_xix, sp_pos]
  refine ⟨vp_in_nI (sp_ix_lt _) (by decide), ?_⟩
  rw [nI_clamp (Nat.lt_trans (sp_ix_lt _) (by decide))]
  exact h
theorem sp_Y {post : Int32 → SY → Prop} {s : Int32} {p : Int64} {e : Int32} (h : post (sp_tab (sp_ix (p + s.toInt64))) (p + s.toInt64, e)) : wY_step_26 post s p e := by
  intro f hf x hx
  rw [hf, hx, sp_yix]
  exact sp_coil (sp_ix_lt _) h
/-- Y keeps the position as a long p; X its low 32 bits and its low three bits; the flag is the same -/
def i_Rel (_ : Nat) (u : SX) (v : SY) : Prop := ∃ (p : Int64) (e : Int32), u = (nI (sp_ix p), p.toInt32, e, sp_tab) ∧ v = (p, e)
theorem i_up {k : Nat} {u : SX} {v : SY} (h : i_Rel k u v) : i_Rel (k + 2) u v := h
theorem sp_00 : ((0, 0, 0, sp_tab) : SX) = (nI (sp_ix 0), (0 : Int64).toInt32, 0, sp_tab) := by
  have a : nI (sp_ix 0) = 0 := by decide +kernel
  have b : (0 : Int64).toInt32 = 0 := by decide +kernel
  rw [a, b]
theorem i_vc0 : wpX_init (fun u => wpY_init (fun v => i_Rel 0 u v)) := by
  intro a0 e0 a1 e1 a2 e2 a3 e3 a4 e4 a5 e5 a6 e6 a7 e7
  have e : a7 = sp_tab := by rw [e7, e6, e5, e4, e3, e2, e1, e0]; exact rfl
  rw [e]
  exact ⟨0, 0, sp_00, rfl⟩
theorem i_vc_step {k : Nat} {u : SX} {v : SY} (I : i_Rel k u v) (hk : k + 2 ≤ 1024) (v1 : Int32) : wpX_step (fun r u' => wpY_step (fun r' v' => r' = r ∧ i_Rel (k + 2) u' v') v v1) u v1 := by
  obtain ⟨p, e, rfl, rfl⟩ := I
  by_cases he : e = 0
  · exact br_t he (br_t he ⟨rfl, p, e, rfl, rfl⟩)
  · refine br_f he ?_
    by_cases h1 : v1 ≤ 0
    · by_cases h2 : 0 ≤ v1
      · exact br_t h1 (br_t h2 (sp_X (br_f he (br_t h1 (br_t h2 (sp_Y ⟨rfl, _, e, rfl, rfl⟩))))))
      · exact br_t h1 (br_f h2 (sp_X (br_f he (br_t h1 (br_f h2 (sp_Y ⟨rfl, _, e, rfl, rfl⟩))))))
    · exact br_f h1 (sp_X (br_f he (br_f h1 (sp_Y ⟨rfl, _, e, rfl, rfl⟩))))
theorem sp_fit (v : Int32) : fits .boolean (.int (lw_bz v)) = true := by
  rcases lw_bz_01 v with h | h <;> rw [h] <;> decide +kernel
theorem i_vc_hold {k : Nat} {u : SX} {v : SY} (I : i_Rel k u v) (hk : k + 2 ≤ 1024) (v1 : Int32) : wpX_hold (fun r u' => wpY_hold (fun r' v' => r' = r ∧ i_Rel (k + 2) u' v') v (lw_bz v1)) u (lw_bz v1) := by
  obtain ⟨p, e, rfl, rfl⟩ := I
  refine ⟨lw_bz_n v1, sp_fit v1, ?_⟩
  by_cases h : lw_bz v1 = 0
  · exact br_t h ⟨lw_bz_n v1, sp_fit v1, br_t h ⟨rfl, p, _, rfl, rfl⟩⟩
  · refine br_f h ⟨vp_in_nI (sp_ix_lt _) (by decide), lw_bz_n v1, sp_fit v1, br_f h ?_⟩
    rw [sp_yix]
    refine sp_coil (sp_ix_lt _) ⟨?_, p, _, rfl, rfl⟩
    rw [nI_clamp (Nat.lt_trans (sp_ix_lt _) (by decide))]
theorem i_vc_position {k : Nat} {u : SX} {v : SY} (I : i_Rel k u v) (hk : k + 2 ≤ 1024) : wpX_position (fun r => wpY_position (fun r' => r' = r ∧ i_Rel (k + 2) u v) v) u := by
  obtain ⟨p, e, rfl, rfl⟩ := I
  exact ⟨rfl, p, e, rfl, rfl⟩
end
