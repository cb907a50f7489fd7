section
/-- the two objects hold the same factor -/
def i_Rel (_ : Nat) (u : SX) (v : SY) : Prop := u = v
theorem i_up {k : Nat} {u : SX} {v : SY} (h : i_Rel k u v) : i_Rel (k + 3) u v := h
theorem i_vc0 : wpX_init (fun u => wpY_init (fun v => i_Rel 0 u v)) := rfl
/-- a value cast to short is its own narrowing -/
theorem mv_ns (z : Int32) : narrow .short (.int z.toInt16.toInt32) = .int z.toInt16.toInt32 := congrArg Value.int (by simp)
/-- from the division on: one outcome r, the new factor too, for both walks -/
theorem mv_div (b d a f : Int32) (hd : ¬ d = 0) : ∃ r : Int32, (∀ post : Int32 → SX → Prop, post r r → wX_setDist_72 post b d a f) ∧ (∀ post : Int32 → SY → Prop, post r r → wY_setDist_70 post b d a f) := by
  have h2 : ¬ (2 : Int32) = 0 := by decide
  have hm : (-1024 : Int32) ≤ 1023 := by decide
  by_cases h : (-1024 : Int32) ≤ ((b * ((16384 + (a / 2)) / d)) + 32) >>> ((6 : Int32) &&& 31)
  · by_cases h' : ((b * ((16384 + (a / 2)) / d)) + 32) >>> ((6 : Int32) &&& 31) ≤ (1023 : Int32)
    · exact ⟨_, fun post hp => ⟨h2, hd, nm_e (nm_e (br_t h (br_t h' hp)))⟩, fun post hp => ⟨h2, hd, nm_e (nm_e (br_t h (br_t h' hp)))⟩⟩
    · exact ⟨1023, fun post hp => ⟨h2, hd, nm_e (nm_e (br_t h (br_f h' hp)))⟩, fun post hp => ⟨h2, hd, nm_e (nm_e (br_t h (br_f h' hp)))⟩⟩
  · exact ⟨-1024, fun post hp => ⟨h2, hd, nm_e (nm_e (br_f h hp))⟩, fun post hp => ⟨h2, hd, nm_e (nm_e (br_f h (br_t hm hp)))⟩⟩
/-- from the absolute value on -/
theorem mv_abs (b d f : Int32) (hd : ¬ d = 0) : ∃ r : Int32, (∀ post : Int32 → SX → Prop, post r r → wX_setDist_59 post b d f) ∧ (∀ post : Int32 → SY → Prop, post r r → wY_setDist_55 post b d f) := by
  by_cases h : (0 : Int32) ≤ d
  · obtain ⟨r, hX, hY⟩ := mv_div b d d f hd
    exact ⟨r, fun post hp => br_t h (hX post hp), fun post hp => br_t h (hY post hp)⟩
  · obtain ⟨r, hX, hY⟩ := mv_div b d (-d) f hd
    exact ⟨r, fun post hp => br_f h (hX post hp), fun post hp => br_f h (hY post hp)⟩
/-- from the clamp of td on -/
theorem mv_td (td b f : Int32) (hd : ¬ td = 0) : ∃ r : Int32, (∀ post : Int32 → SX → Prop, post r r → wX_setDist_31 post td b f) ∧ (∀ post : Int32 → SY → Prop, post r r → wY_setDist_31 post td b f) := by
  by_cases h : (-128 : Int32) ≤ td
  · by_cases h' : td ≤ (127 : Int32)
    · obtain ⟨r, hX, hY⟩ := mv_abs b td f hd
      exact ⟨r, fun post hp => br_t h (br_t h' (hX post hp)), fun post hp => br_t h (br_t h' (hY post hp))⟩
    · obtain ⟨r, hX, hY⟩ := mv_abs b 127 f (by decide)
      exact ⟨r, fun post hp => br_t h (br_f h' (hX post hp)), fun post hp => br_t h (br_f h' (hY post hp))⟩
  · obtain ⟨r, hX, hY⟩ := mv_abs b (-128) f (by decide)
    exact ⟨r, fun post hp => br_f h (hX post hp), fun post hp => br_f h (hY post hp)⟩
/-- the whole call: one answer r and one new factor w for both walks -/
theorem mv_set (f tb td : Int32) : ∃ r w : Int32, (∀ post : Int32 → SX → Prop, post r w → wpX_setDist post f tb td) ∧ (∀ post : Int32 → SY → Prop, post r w → wpY_setDist post f tb td) := by
  by_cases hd : td = 0
  · exact ⟨32767, f, fun post hp => br_t hd hp, fun post hp => br_t hd hp⟩
  · by_cases h : (-128 : Int32) ≤ tb
    · by_cases h' : tb ≤ (127 : Int32)
      · obtain ⟨r, hX, hY⟩ := mv_td td tb f hd
        exact ⟨r, r, fun post hp => br_f hd (br_t h (br_t h' (hX post hp))), fun post hp => br_f hd (br_t h (br_t h' (hY post hp)))⟩
      · obtain ⟨r, hX, hY⟩ := mv_td td 127 f hd
        exact ⟨r, r, fun post hp => br_f hd (br_t h (br_f h' (hX post hp))), fun post hp => br_f hd (br_t h (br_f h' (hY post hp)))⟩
    · obtain ⟨r, hX, hY⟩ := mv_td td (-128) f hd
      exact ⟨r, r, fun post hp => br_f hd (br_f h (hX post hp)), fun post hp => br_f hd (br_f h (hY post hp))⟩
theorem i_vc_setDist {k : Nat} {u : SX} {v : SY} (I : i_Rel k u v) (hk : k + 3 ≤ 1536) (v1 : Int32) (v2 : Int32) : wpX_setDist (fun r u' => wpY_setDist (fun r' v' => r' = r ∧ i_Rel (k + 3) u' v') v v1 v2) u v1 v2 := by
  cases I
  obtain ⟨r, w, hX, hY⟩ := mv_set u v1 v2
  exact hX _ (hY _ ⟨rfl, rfl⟩)
theorem i_vc_scale {k : Nat} {u : SX} {v : SY} (I : i_Rel k u v) (hk : k + 3 ≤ 1536) (v1 : Int32) : wpX_scale (fun r => wpY_scale (fun r' => r' = r ∧ i_Rel (k + 3) u v) v v1) u v1 := by
  cases I
  exact ⟨mv_ns _, mv_ns _, rfl, rfl⟩
theorem i_vc_rest {k : Nat} {u : SX} {v : SY} (I : i_Rel k u v) (hk : k + 3 ≤ 1536) (v1 : Int32) : wpX_rest (fun r => wpY_rest (fun r' => r' = r ∧ i_Rel (k + 3) u v) v v1) u v1 := by
  cases I
  intro x ex
  unfold wpY_rest wpY_scale
  exact ⟨mv_ns _, by rw [ex], rfl⟩
theorem i_vc_factor {k : Nat} {u : SX} {v : SY} (I : i_Rel k u v) (hk : k + 3 ≤ 1536) : wpX_factor (fun r => wpY_factor (fun r' => r' = r ∧ i_Rel (k + 3) u v) v) u := by
  cases I
  exact ⟨rfl, rfl⟩
end
