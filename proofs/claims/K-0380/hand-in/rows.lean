section
/-- the two meters are in the same state: the same gas, the same count paid for, the same cost table -/
def i_Rel (_ : Nat) (u : SX) (v : SY) : Prop := u = v
theorem i_up {k : Nat} {u : SX} {v : SY} (h : i_Rel k u v) : i_Rel (k + 2) u v := h
theorem gm_16 : nI 16 = 16 := by decide +kernel
theorem gm_512 : ¬ (512 : Int64) = 0 := by decide
/-- a shift to the left by 16 is a product with 65536, at every long -/
theorem gm_shl (x : Int64) : x <<< ((16 : Int32).toInt64 &&& 63) = x * 65536 := by
  have h : (((16 : Int32).toInt64 &&& 63).toBitVec.smod 64).toNat = 16 := by decide
  have h2 : (65536 : Int64).toBitVec.toNat = 2 ^ 16 := by decide
  apply Int64.toBitVec_inj.mp
  apply BitVec.eq_of_toNat_eq
  show (x.toBitVec <<< (((16 : Int32).toInt64 &&& 63).toBitVec.smod 64).toNat).toNat = (x.toBitVec * (65536 : Int64).toBitVec).toNat
  rw [h, BitVec.toNat_shiftLeft, Nat.shiftLeft_eq, BitVec.toNat_mul, h2]
/-- both constructors' loops from the same table end in one table c -/
theorem gm_init (x1 : Int32) : ∀ (d j : Nat) (a : Nat → Int32), j + d = 16 → ∃ c : Nat → Int32, (∀ post : SX → Prop, (0 ≤ x1 → post (x1.toInt64 * 65536, 0, c)) → (¬ 0 ≤ x1 → post (0, 0, c)) → wX_init_14 post x1 0 0 (d + 1) (nI j) a) ∧ (∀ (post : SY → Prop) (g : Int64) (p : Int32), post (g, p, c) → wY_init_31 post g p (d + 1) (nI j) a) := by
  intro d
  induction d with
  | zero =>
    intro j a hj
    have h : (16 : Int32) ≤ nI j := by rw [← gm_16]; exact nI_le (by omega) (by omega)
    exact ⟨a, fun _ hp hq => br_t h (br_c (fun h0 => nm_e (hp h0)) hq), fun _ _ _ hp => br_t h hp⟩
  | succ d ih =>
    intro j a hj
    have h : ¬ (16 : Int32) ≤ nI j := by rw [← gm_16]; exact nI_ge (by omega) (by omega)
    have hi : vp_in (nI j) 16 := vp_in_nI (by omega) (by omega)
    obtain ⟨c, hX, hY⟩ := ih (j + 1) (upd a (nI j).toNatClampNeg (vp_nar .short ((((140 * nI j) * nI j) + 2).toInt16.toInt32))) (by omega)
    refine ⟨c, fun post hp hq => br_f h ⟨hi, fun b eb y ey => ?_⟩, fun post g p hp => br_f h ⟨hi, fun b eb y ey => ?_⟩⟩
    · rw [ey, nI_1, eb]; exact hX post hp hq
    · rw [ey, nI_1, eb]; exact hY post g p hp
theorem i_vc0 (k0 : Int32) : wpX_init (fun u => wpY_init (fun v => i_Rel 1 u v) k0) k0 := by
  obtain ⟨c, hX, hY⟩ := gm_init k0 16 0 (fun _ => 0) rfl
  rw [nI_0] at hX hY
  refine ⟨17, hX _ (fun h0 => ?_) (fun h0 => ?_)⟩
  · refine br_t h0 (nm_r (gm_shl _) ?_)
    refine ⟨17, hY _ _ _ ?_⟩
    exact rfl
  · refine br_f h0 ?_
    refine ⟨17, hY _ _ _ ?_⟩
    exact rfl
theorem i_vc_charge {k : Nat} {u : SX} {v : SY} (I : i_Rel k u v) (hk : k + 2 ≤ 1025) (v1 : Int32) : wpX_charge (fun r u' => wpY_charge (fun r' v' => r' = r ∧ i_Rel (k + 2) u' v') v v1) u v1 := by
  cases I
  obtain ⟨g, p, a⟩ := u
  by_cases h0 : v1 < 0
  · exact br_t h0 (br_t h0 ⟨rfl, rfl⟩)
  · by_cases h5 : v1 ≤ 15
    · have hi : vp_in v1 16 := by
        obtain ⟨j, hj, rfl⟩ := nI_of2 (M := 15) (n := 15) (by decide) h0 h5
        exact vp_in_nI (by omega) (by omega)
      refine br_f h0 (br_t h5 ⟨hi, nm_e ?_⟩)
      by_cases hc : (a v1.toNatClampNeg).toInt64 ≤ g
      · exact br_t hc (nm_e (br_f h0 (br_t h5 ⟨hi, nm_e (br_t hc (nm_e ⟨rfl, rfl⟩))⟩)))
      · exact br_f hc (br_f h0 (br_t h5 ⟨hi, nm_e (br_f hc ⟨rfl, rfl⟩)⟩))
    · exact br_f h0 (br_f h5 (br_f h0 (br_f h5 ⟨rfl, rfl⟩)))
theorem gm_mem {post : Int64 → Prop} {w : Int64} (h : post ((3 * w) + ((w * w) / 512))) : wpY_mem post w := ⟨gm_512, h⟩
theorem i_vc_expand {k : Nat} {u : SX} {v : SY} (I : i_Rel k u v) (hk : k + 2 ≤ 1025) (v1 : Int32) : wpX_expand (fun r u' => wpY_expand (fun r' v' => r' = r ∧ i_Rel (k + 2) u' v') v v1) u v1 := by
  cases I
  obtain ⟨g, p, a⟩ := u
  by_cases h0 : 0 ≤ v1
  · by_cases hp : p < v1
    · refine br_t h0 (br_t hp ⟨gm_512, nm_e ⟨gm_512, nm_e (nm_e ?_)⟩⟩)
      by_cases hc : ((3 * v1.toInt64) + ((v1.toInt64 * v1.toInt64) / 512)) - ((3 * p.toInt64) + ((p.toInt64 * p.toInt64) / 512)) ≤ g
      · refine br_t hc (nm_e (br_t h0 (br_t hp (gm_mem (gm_mem (nm_e ?_))))))
        exact br_t hc (nm_e ⟨rfl, rfl⟩)
      · refine br_f hc (br_t h0 (br_t hp (gm_mem (gm_mem (nm_e ?_)))))
        exact br_f hc ⟨rfl, rfl⟩
    · exact br_t h0 (br_f hp (br_t h0 (br_f hp ⟨rfl, rfl⟩)))
  · exact br_f h0 (br_f h0 ⟨rfl, rfl⟩)
theorem i_vc_left {k : Nat} {u : SX} {v : SY} (I : i_Rel k u v) (hk : k + 2 ≤ 1025) : wpX_left (fun r => wpY_left (fun r' => r' = r ∧ i_Rel (k + 2) u v) v) u := by
  cases I
  obtain ⟨g, p, a⟩ := u
  exact And.intro rfl rfl
theorem i_vc_paid {k : Nat} {u : SX} {v : SY} (I : i_Rel k u v) (hk : k + 2 ≤ 1025) : wpX_paid (fun r => wpY_paid (fun r' => r' = r ∧ i_Rel (k + 2) u v) v) u := by
  cases I
  obtain ⟨g, p, a⟩ := u
  exact And.intro rfl rfl
end
