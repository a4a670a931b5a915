section
/-- both objects hold the same two lanes -/
def i_Rel (_ : Nat) (u : SX) (v : SY) : Prop := u = v
theorem i_up {k : Nat} {u : SX} {v : SY} (h : i_Rel k u v) : i_Rel (k + 3) u v := h
theorem i_vc0 : wpX_init (fun u => wpY_init (fun v => i_Rel 0 u v)) := rfl
/-- the mask ahead of the char cast changes nothing: the cast keeps the low 16 bits alone -/
theorem mw_low (x : Int32) : (x.toUInt32 % 65536).toInt32 = ((x &&& 65535).toUInt32 % 65536).toInt32 := by
  apply Int32.toBitVec_inj.mp
  apply BitVec.eq_of_toNat_eq
  show (x.toUInt32 % 65536).toNat = ((x &&& 65535).toUInt32 % 65536).toNat
  rw [UInt32.toNat_mod, UInt32.toNat_mod]
  show x.toBitVec.toNat % 65536 = (x &&& 65535).toBitVec.toNat % 65536
  rw [Int32.toBitVec_and, BitVec.toNat_and]
  have e : x.toBitVec.toNat &&& (65535 : Int32).toBitVec.toNat = x.toBitVec.toNat % 65536 := Nat.and_two_pow_sub_one_eq_mod _ 16
  rw [e]
  omega
theorem i_vc_seed {k : Nat} {u : SX} {v : SY} (I : i_Rel k u v) (hk : k + 3 ≤ 1536) (v1 : Int32) (v2 : Int32) : wpX_seed (fun r u' => wpY_seed (fun r' v' => r' = r ∧ i_Rel (k + 3) u' v') v v1 v2) u v1 v2 := by
  cases I
  obtain ⟨z, w⟩ := u
  by_cases h1 : v1 = 0
  · refine br_t h1 fun r er => ?_
    by_cases h2 : v2 = 0
    · refine br_t h2 fun s es => br_t h1 fun r' er' => br_t h2 fun s' es' => ?_
      exact ⟨by rw [es', es, er', er], rfl⟩
    · refine br_f h2 (br_t h1 fun r' er' => br_f h2 ?_)
      exact ⟨by rw [er', er], rfl⟩
  · refine br_f h1 ?_
    by_cases h2 : v2 = 0
    · refine br_t h2 fun s es => br_f h1 (br_t h2 fun s' es' => ?_)
      exact ⟨by rw [es', es], rfl⟩
    · exact br_f h2 (br_f h1 (br_f h2 ⟨rfl, rfl⟩))
theorem i_vc_next {k : Nat} {u : SX} {v : SY} (I : i_Rel k u v) (hk : k + 3 ≤ 1536) : wpX_next (fun r u' => wpY_next (fun r' v' => r' = r ∧ i_Rel (k + 3) u' v') v) u := by
  cases I
  obtain ⟨z, w⟩ := u
  intro z1 ez w1 ew z2 ez' w2 ew'
  refine ⟨by rw [ez, ew], ?_⟩
  show (z1, w1) = (z2, w2)
  rw [ez, ew, ez', ew']
theorem i_vc_low {k : Nat} {u : SX} {v : SY} (I : i_Rel k u v) (hk : k + 3 ≤ 1536) : wpX_low (fun r => wpY_low (fun r' => r' = r ∧ i_Rel (k + 3) u v) v) u := by
  cases I
  obtain ⟨z, w⟩ := u
  exact ⟨lw_u16_n (w &&& 65535), lw_u16_n w, mw_low w, rfl⟩
theorem i_vc_state {k : Nat} {u : SX} {v : SY} (I : i_Rel k u v) (hk : k + 3 ≤ 1536) : wpX_state (fun r => wpY_state (fun r' => r' = r ∧ i_Rel (k + 3) u v) v) u := by
  cases I
  obtain ⟨z, w⟩ := u
  exact ⟨rfl, rfl⟩
end
