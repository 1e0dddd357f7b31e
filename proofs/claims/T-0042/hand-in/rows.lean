section
/-- both register files hold the same count and the same cells; the count is within the array, cell 0 holds 0 -/
def i_Rel (_ : Nat) (u : SX) (v : SY) : Prop := u = v ∧ u.1 ≤ 32 ∧ u.2 0 = 0
theorem i_up {k : Nat} {u : SX} {v : SY} (h : i_Rel k u v) : i_Rel (k + 3) u v := h
theorem rf_1 : (1 : Int32) ≤ 32 := by decide
theorem rf_32 : (32 : Int32) ≤ 32 := by decide
theorem rf_t32 : (32 : Int32).toInt = 32 := by decide
theorem rf_n32 : nI 32 = 32 := by decide +kernel
theorem rf_c0 : (0 : Int32).toNatClampNeg = 0 := by decide
/-- a number from 0 to below the count is within the array -/
theorem rf_in {r c : Int32} (hc : c ≤ 32) (h0 : ¬ r < 0) (h : r < c) : vp_in r 32 := by
  rw [Int32.le_iff_toInt_le, rf_t32] at hc
  rw [Int32.lt_iff_toInt_lt, Int32.toInt_zero] at h0
  rw [Int32.lt_iff_toInt_lt] at h
  exact vp_in_iff.mpr (by omega)
theorem rf_k {r : Int32} (h0 : ¬ r < 0) (hz : ¬ r = 0) : ¬ 0 = r.toNatClampNeg := by
  obtain ⟨j, hj, rfl⟩ := nI_of h0
  rw [nI_clamp hj]
  intro e
  subst e
  exact hz nI_0
/-- a store at another cell than 0 keeps cell 0 -/
theorem rf_up {a : Nat → Int32} {r : Int32} (v : Int32) (h : a 0 = 0) (h0 : ¬ r < 0) (hz : ¬ r = 0) : upd a r.toNatClampNeg v 0 = 0 := by
  show (if 0 = r.toNatClampNeg then v else a 0) = 0
  rw [if_neg (rf_k h0 hz)]
  exact h
/-- a store of 0 keeps cell 0 at 0 -/
theorem rf_up0 {a : Nat → Int32} (k : Nat) (h : a 0 = 0) : upd a k 0 0 = 0 := by
  show (if 0 = k then 0 else a 0) = 0
  by_cases q : 0 = k
  · rw [if_pos q]
  · rw [if_neg q]; exact h
theorem i_vc0 (k0 : Int32) : wpX_init (fun u => wpY_init (fun v => i_Rel 1 u v) k0) k0 := by
  by_cases h1 : 1 ≤ k0
  · by_cases h2 : k0 ≤ 32
    · exact br_t h1 (br_t h2 (br_t h1 (br_t h2 ⟨rfl, h2, rfl⟩)))
    · exact br_t h1 (br_f h2 (br_t h1 (br_f h2 ⟨rfl, rf_32, rfl⟩)))
  · exact br_f h1 (br_t rf_1 (br_f h1 ⟨rfl, rf_1, rfl⟩))
theorem i_vc_size {k : Nat} {u : SX} {v : SY} (I : i_Rel k u v) (hk : k + 3 ≤ 1537) : wpX_size (fun r => wpY_size (fun r' => r' = r ∧ i_Rel (k + 3) u v) v) u := by
  obtain ⟨c, a⟩ := u
  obtain ⟨rfl, hc, hz⟩ := I
  exact ⟨rfl, rfl, hc, hz⟩
theorem i_vc_write {k : Nat} {u : SX} {v : SY} (I : i_Rel k u v) (hk : k + 3 ≤ 1537) (v1 : Int32) (v2 : Int32) : wpX_write (fun r u' => wpY_write (fun r' v' => r' = r ∧ i_Rel (k + 3) u' v') v v1 v2) u v1 v2 := by
  obtain ⟨c, a⟩ := u
  obtain ⟨rfl, hc, hz⟩ := I
  by_cases h0 : v1 < 0
  · exact br_t h0 (br_t h0 ⟨rfl, rfl, hc, hz⟩)
  · by_cases hn : v1 < c
    · by_cases z : v1 = 0
      · exact br_f h0 (br_t hn (br_t z (br_f h0 (br_t hn (br_t z ⟨rfl, rfl, hc, hz⟩)))))
      · have hi : vp_in v1 32 := rf_in hc h0 hn
        exact br_f h0 (br_t hn (br_f z ⟨hi, nm_e (br_f h0 (br_t hn (br_f z ⟨hi, nm_e ⟨rfl, rfl, hc, rf_up v2 hz h0 z⟩⟩)))⟩))
    · exact br_f h0 (br_f hn (br_f h0 (br_f hn ⟨rfl, rfl, hc, hz⟩)))
theorem i_vc_read {k : Nat} {u : SX} {v : SY} (I : i_Rel k u v) (hk : k + 3 ≤ 1537) (v1 : Int32) : wpX_read (fun r => wpY_read (fun r' => r' = r ∧ i_Rel (k + 3) u v) v v1) u v1 := by
  obtain ⟨c, a⟩ := u
  obtain ⟨rfl, hc, hz⟩ := I
  by_cases hl : v1 ≤ 0
  · by_cases h0 : v1 < 0
    · exact br_t hl (br_t h0 ⟨rfl, rfl, hc, hz⟩)
    · have e : v1 = 0 := Int32.le_antisymm hl (Int32.not_lt.mp h0)
      have ha : a v1.toNatClampNeg = 0 := by rw [e, rf_c0]; exact hz
      by_cases hn : v1 < c
      · exact br_t hl (br_f h0 (br_t hn ⟨rf_in hc h0 hn, ha, rfl, hc, hz⟩))
      · exact br_t hl (br_f h0 (br_f hn ⟨rfl, rfl, hc, hz⟩))
  · have h0 : ¬ v1 < 0 := fun q => hl (Int32.le_of_lt q)
    by_cases hn : v1 < c
    · have hi : vp_in v1 32 := rf_in hc h0 hn
      exact br_f hl (br_t hn ⟨hi, br_f h0 (br_t hn ⟨hi, rfl, rfl, hc, hz⟩)⟩)
    · exact br_f hl (br_f hn (br_f h0 (br_f hn ⟨rfl, rfl, hc, hz⟩)))
theorem i_vc_move {k : Nat} {u : SX} {v : SY} (I : i_Rel k u v) (hk : k + 3 ≤ 1537) (v1 : Int32) (v2 : Int32) : wpX_move (fun r u' => wpY_move (fun r' v' => r' = r ∧ i_Rel (k + 3) u' v') v v1 v2) u v1 v2 := by
  obtain ⟨c, a⟩ := u
  obtain ⟨rfl, hc, hz⟩ := I
  by_cases h0 : v1 < 0
  · exact br_t h0 (br_t h0 ⟨rfl, rfl, hc, hz⟩)
  · by_cases hn : v1 < c
    · have hm : ¬ c ≤ v1 := Int32.not_le.mpr hn
      by_cases g0 : v2 < 0
      · exact br_f h0 (br_f hm (br_t g0 (br_f h0 (br_t hn (br_t g0 ⟨rfl, rfl, hc, hz⟩)))))
      · by_cases gn : v2 < c
        · by_cases z : v1 = 0
          · exact br_f h0 (br_f hm (br_f g0 (br_t gn (br_t z (br_f h0 (br_t hn (br_f g0 (br_t gn (br_t z ⟨rfl, rfl, hc, hz⟩)))))))))
          · have hi : vp_in v1 32 := rf_in hc h0 hn
            have gi : vp_in v2 32 := rf_in hc g0 gn
            by_cases y : v2 = 0
            · have e : upd a v1.toNatClampNeg (a v2.toNatClampNeg) = upd a v1.toNatClampNeg 0 := by
                have q : a v2.toNatClampNeg = 0 := by rw [y, rf_c0]; exact hz
                rw [q]
              exact br_f h0 (br_f hm (br_f g0 (br_t gn (br_f z (br_t y ⟨hi, nm_e (br_f h0 (br_t hn (br_f g0 (br_t gn (br_f z ⟨gi, hi, nm_r e ⟨rfl, rfl, hc, rf_up 0 hz h0 z⟩⟩)))))⟩)))))
            · exact br_f h0 (br_f hm (br_f g0 (br_t gn (br_f z (br_f y ⟨gi, nm_e ⟨hi, nm_e (br_f h0 (br_t hn (br_f g0 (br_t gn (br_f z ⟨gi, hi, nm_e ⟨rfl, rfl, hc, rf_up (a v2.toNatClampNeg) hz h0 z⟩⟩)))))⟩⟩)))))
        · exact br_f h0 (br_f hm (br_f g0 (br_f gn (br_f h0 (br_t hn (br_f g0 (br_f gn ⟨rfl, rfl, hc, hz⟩)))))))
    · exact br_f h0 (br_t (Int32.not_lt.mp hn) (br_f h0 (br_f hn ⟨rfl, rfl, hc, hz⟩)))
/-- both reset loops from cell j on: one outcome b, for every post -/
theorem rf_reset (c : Int32) : ∀ d j : Nat, j + d = 32 → ∀ a : Nat → Int32, a 0 = 0 → ∃ b : Nat → Int32, b 0 = 0 ∧ (∀ post : SX → Prop, post (c, b) → wX_reset_2 post c (d + 1) (nI j) a) ∧ (∀ post : SY → Prop, post (c, b) → wY_reset_2 post c (d + 1) (nI j) a) := by
  intro d
  induction d with
  | zero =>
    intro j hj a ha
    have h : (32 : Int32) ≤ nI j := by rw [← rf_n32]; exact nI_le (by omega) (by omega)
    exact ⟨a, ha, fun _ hp => br_t h hp, fun _ hp => br_t h hp⟩
  | succ d ih =>
    intro j hj a ha
    have h : ¬ (32 : Int32) ≤ nI j := by rw [← rf_n32]; exact nI_ge (by omega) (by omega)
    have hi : vp_in (nI j) 32 := vp_in_nI (by omega) (by omega)
    obtain ⟨b, hb, hX, hY⟩ := ih (j + 1) (by omega) (upd a (nI j).toNatClampNeg 0) (rf_up0 _ ha)
    refine ⟨b, hb, fun post hp => br_f h ⟨hi, fun a' ea y ey => ?_⟩, fun post hp => br_f h ⟨hi, fun a' ea y ey => ?_⟩⟩
    · rw [ea, ey, nI_1]; exact hX post hp
    · rw [ea, ey, nI_1]; exact hY post hp
theorem i_vc_reset {k : Nat} {u : SX} {v : SY} (I : i_Rel k u v) (hk : k + 3 ≤ 1537) : wpX_reset (fun u' => wpY_reset (fun v' => i_Rel (k + 3) u' v') v) u := by
  obtain ⟨c, a⟩ := u
  obtain ⟨rfl, hc, hz⟩ := I
  obtain ⟨b, hb, hX, hY⟩ := rf_reset c 32 0 rfl a hz
  rw [nI_0] at hX hY
  exact ⟨33, hX _ ⟨33, hY _ ⟨rfl, hc, hb⟩⟩⟩
end
