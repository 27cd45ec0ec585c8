section
/-- the two books hold the same balance and the same eight holds -/
def i_Rel (_ : Nat) (u : SX) (v : SY) : Prop := u = v
theorem i_up {k : Nat} {u : SX} {v : SY} (h : i_Rel k u v) : i_Rel (k + 3) u v := h
theorem i_vc0 (k0 : Int32) : wpX_init (fun u => wpY_init (fun v => i_Rel 1 u v) k0) k0 := by
  by_cases h : k0 ≤ 0
  · exact br_t h (br_t h rfl)
  · refine br_f h (fun x ex => br_f h (fun y ey => ?_))
    have e : x = y := by rw [ex, ey, Int64.mul_comm]
    cases e
    exact rfl
theorem hb_8 : nI 8 = 8 := by decide +kernel
theorem hb_in {x : Int32} (h0 : ¬ x < 0) (h7 : x ≤ 7) : vp_in x 8 := by
  rw [Int32.lt_iff_toInt_lt] at h0
  rw [Int32.le_iff_toInt_le] at h7
  have e0 : (0 : Int32).toInt = 0 := by decide
  have e7 : (7 : Int32).toInt = 7 := by decide
  rw [vp_in_iff]
  omega
/-- summing the holds and then subtracting, or subtracting hold by hold: one answer, in the ring of longs -/
theorem hb_av (b : Int64) (a : Nat → Int32) : ∀ d j : Nat, j + d = 8 → ∀ s t : Int64, t = b - s → ∃ r : Int64, (∀ post : Int64 → Prop, post r → wX_available_4 post b a (d + 1) s (nI j)) ∧ (∀ post : Int64 → Prop, post r → wY_available_7 post b a (d + 1) t (nI j)) := by
  intro d
  induction d with
  | zero =>
    intro j hj s t e
    have h : (8 : Int32) ≤ nI j := by rw [← hb_8]; exact nI_le (by omega) (by omega)
    cases e
    exact ⟨b - s, fun _ hp => br_t h hp, fun _ hp => br_t h hp⟩
  | succ d ih =>
    intro j hj s t e
    have h : ¬ (8 : Int32) ≤ nI j := by rw [← hb_8]; exact nI_ge (by omega) (by omega)
    have hi : vp_in (nI j) 8 := vp_in_nI (by omega) (by omega)
    obtain ⟨r, hX, hY⟩ := ih (j + 1) (by omega) (s + (a (nI j).toNatClampNeg).toInt64) (t - (a (nI j).toNatClampNeg).toInt64) (by rw [e]; grind)
    refine ⟨r, fun post hp => br_f h ⟨hi, fun x ex y ey => ?_⟩, fun post hp => br_f h ⟨hi, fun x ex y ey => ?_⟩⟩
    · rw [ex, ey, nI_1]; exact hX post hp
    · rw [ex, ey, nI_1]; exact hY post hp
/-- both sides' available: one answer for every post -/
theorem hb_avail (b : Int64) (a : Nat → Int32) : ∃ r : Int64, (∀ post : Int64 → Prop, post r → wpX_available post (b, a)) ∧ (∀ post : Int64 → Prop, post r → wpY_available post (b, a)) := by
  obtain ⟨r, hX, hY⟩ := hb_av b a 8 0 rfl 0 b (by grind)
  rw [nI_0] at hX hY
  exact ⟨r, fun post hp => ⟨_, hX post hp⟩, fun post hp => ⟨_, hY post hp⟩⟩
/-- the search for a free slot: one outcome for every post -/
theorem hb_scan (x : Int32) (b : Int64) (a : Nat → Int32) : ∀ d j : Nat, j + d = 8 → ∃ (r : Int32) (a' : Nat → Int32), (∀ post : Int32 → SX → Prop, post r (b, a') → wX_authorise_21 post x b a (d + 1) (nI j)) ∧ (∀ post : Int32 → SY → Prop, post r (b, a') → wY_authorise_21 post x b a (d + 1) (nI j)) := by
  intro d
  induction d with
  | zero =>
    intro j hj
    have h : (8 : Int32) ≤ nI j := by rw [← hb_8]; exact nI_le (by omega) (by omega)
    exact ⟨-3, a, fun _ hp => br_t h hp, fun _ hp => br_t h hp⟩
  | succ d ih =>
    intro j hj
    have h : ¬ (8 : Int32) ≤ nI j := by rw [← hb_8]; exact nI_ge (by omega) (by omega)
    have hi : vp_in (nI j) 8 := vp_in_nI (by omega) (by omega)
    by_cases z : a (nI j).toNatClampNeg = 0
    · refine ⟨nI j, upd a (nI j).toNatClampNeg x, fun post hp => br_f h ⟨hi, br_t z ⟨hi, fun y ey => ?_⟩⟩, fun post hp => br_f h ⟨hi, br_t z ⟨hi, fun y ey => ?_⟩⟩⟩
      · rw [ey]; exact hp
      · rw [ey]; exact hp
    · obtain ⟨r, a', hX, hY⟩ := ih (j + 1) (by omega)
      refine ⟨r, a', fun post hp => br_f h ⟨hi, br_f z fun y ey => ?_⟩, fun post hp => br_f h ⟨hi, br_f z fun y ey => ?_⟩⟩
      · rw [ey, nI_1]; exact hX post hp
      · rw [ey, nI_1]; exact hY post hp
end
section
theorem i_vc_available {k : Nat} {u : SX} {v : SY} (I : i_Rel k u v) (hk : k + 3 ≤ 1537) : wpX_available (fun r => wpY_available (fun r' => r' = r ∧ i_Rel (k + 3) u v) v) u := by
  cases I
  obtain ⟨b, a⟩ := u
  obtain ⟨r, hX, hY⟩ := hb_avail b a
  exact hX _ (hY _ ⟨rfl, rfl⟩)
theorem i_vc_authorise {k : Nat} {u : SX} {v : SY} (I : i_Rel k u v) (hk : k + 3 ≤ 1537) (v1 : Int32) : wpX_authorise (fun r u' => wpY_authorise (fun r' v' => r' = r ∧ i_Rel (k + 3) u' v') v v1) u v1 := by
  cases I
  obtain ⟨b, a⟩ := u
  by_cases h0 : 0 < v1
  · obtain ⟨r, hX, hY⟩ := hb_avail b a
    by_cases hr : v1.toInt64 ≤ r
    · obtain ⟨q, a', sX, sY⟩ := hb_scan v1 b a 8 0 rfl
      rw [nI_0] at sX sY
      exact br_t h0 (hX _ (br_t hr ⟨_, sX _ (br_t h0 (hY _ (br_t hr ⟨_, sY _ ⟨rfl, rfl⟩⟩)))⟩))
    · exact br_t h0 (hX _ (br_f hr (br_t h0 (hY _ (br_f hr ⟨rfl, rfl⟩)))))
  · exact br_f h0 (br_f h0 ⟨rfl, rfl⟩)
theorem i_vc_capture {k : Nat} {u : SX} {v : SY} (I : i_Rel k u v) (hk : k + 3 ≤ 1537) (v1 : Int32) (v2 : Int32) : wpX_capture (fun r u' => wpY_capture (fun r' v' => r' = r ∧ i_Rel (k + 3) u' v') v v1 v2) u v1 v2 := by
  cases I
  obtain ⟨b, a⟩ := u
  by_cases h0 : v1 < 0
  · exact br_t h0 (br_t h0 ⟨rfl, rfl⟩)
  · by_cases h7 : v1 ≤ 7
    · have hi : vp_in v1 8 := hb_in h0 h7
      refine br_f h0 (br_t h7 ⟨hi, fun x ex => ?_⟩)
      cases ex
      by_cases z : a v1.toNatClampNeg = 0
      · exact br_t z (br_f h0 (br_t h7 ⟨hi, br_t z ⟨rfl, rfl⟩⟩))
      · by_cases p : 0 ≤ v2
        · by_cases m : a v1.toNatClampNeg ≤ v2
          · refine br_f z (br_t p (br_t m (fun c ec => ⟨hi, fun g eg => br_f h0 (br_t h7 ⟨hi, br_f z (br_t p ⟨hi, br_t m ⟨hi, fun c' ec' => ⟨hi, fun g' eg' => ⟨rfl, ?_⟩⟩⟩⟩)⟩)⟩)))
            cases ec; cases eg; cases ec'; cases eg'
            exact rfl
          · refine br_f z (br_t p (br_f m (fun c ec => ⟨hi, fun g eg => br_f h0 (br_t h7 ⟨hi, br_f z (br_t p ⟨hi, br_f m (fun c' ec' => ⟨hi, fun g' eg' => ⟨rfl, ?_⟩⟩)⟩)⟩)⟩)))
            cases ec; cases eg; cases ec'; cases eg'
            exact rfl
        · exact br_f z (br_f p (br_f h0 (br_t h7 ⟨hi, br_f z (br_f p ⟨rfl, rfl⟩)⟩)))
    · exact br_f h0 (br_f h7 (br_f h0 (br_f h7 ⟨rfl, rfl⟩)))
theorem i_vc_release {k : Nat} {u : SX} {v : SY} (I : i_Rel k u v) (hk : k + 3 ≤ 1537) (v1 : Int32) : wpX_release (fun r u' => wpY_release (fun r' v' => r' = r ∧ i_Rel (k + 3) u' v') v v1) u v1 := by
  cases I
  obtain ⟨b, a⟩ := u
  by_cases h0 : v1 < 0
  · exact br_t h0 (br_t h0 ⟨rfl, rfl⟩)
  · by_cases h7 : v1 ≤ 7
    · have hi : vp_in v1 8 := hb_in h0 h7
      refine br_f h0 (br_t h7 ⟨hi, fun x ex => ?_⟩)
      cases ex
      by_cases z : a v1.toNatClampNeg = 0
      · exact br_t z (br_f h0 (br_t h7 ⟨hi, br_t z ⟨rfl, rfl⟩⟩))
      · refine br_f z ⟨hi, fun g eg => br_f h0 (br_t h7 ⟨hi, br_f z ⟨hi, fun x' ex' => ⟨hi, hi, fun g' eg' => ⟨ex', ?_⟩⟩⟩⟩)⟩
        cases ex'
        rw [Int32.sub_self] at eg'
        cases eg; cases eg'
        exact rfl
    · exact br_f h0 (br_f h7 (br_f h0 (br_f h7 ⟨rfl, rfl⟩)))
end
