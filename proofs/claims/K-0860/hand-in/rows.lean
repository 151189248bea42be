section
/-- the two monitors hold the same ticks and the same statuses -/
def i_Rel (_ : Nat) (u : SX) (v : SY) : Prop := u = v
theorem i_up {k : Nat} {u : SX} {v : SY} (h : i_Rel k u v) : i_Rel (k + 3) u v := h
theorem i_vc0 : wpX_init (fun u => wpY_init (fun v => i_Rel 0 u v)) := rfl
theorem hb_8 : nI 8 = 8 := by decide +kernel
theorem hb_7 : (7 : Int32).toInt = ((7 : Nat) : Int) := by decide
theorem hb_b0 : vp_nar .byte 0 = 0 := by rw [vp_nar_byte]; decide
theorem hb_c0 : vp_nar .byte (0 : Int32).toInt8.toInt32 = 0 := by rw [vp_nar_byte]; decide
theorem hb_c1 : vp_nar .byte (1 : Int32).toInt8.toInt32 = 1 := by rw [vp_nar_byte]; decide
theorem hb_c2 : vp_nar .byte (2 : Int32).toInt8.toInt32 = 2 := by rw [vp_nar_byte]; decide
theorem i_vc_beat {k : Nat} {u : SX} {v : SY} (I : i_Rel k u v) (hk : k + 3 ≤ 1536) (v1 : Int32) (v2 : Int32) : wpX_beat (fun r u' => wpY_beat (fun r' v' => r' = r ∧ i_Rel (k + 3) u' v') v v1 v2) u v1 v2 := by
  cases I
  obtain ⟨l, s⟩ := u
  by_cases h0 : v1 < 0
  · exact br_t h0 (br_t h0 ⟨rfl, rfl⟩)
  · by_cases h7 : v1 ≤ 7
    · have hi : vp_in v1 8 := by
        obtain ⟨j, hj, rfl⟩ := nI_of2 hb_7 h0 h7
        exact vp_in_nI (by omega) (by omega)
      refine br_f h0 (br_t h7 ⟨hi, fun p ep => ⟨hi, fun a ea => ⟨hi, fun b eb => ?_⟩⟩⟩)
      refine br_f h0 (br_t h7 ⟨hi, fun q eq => ⟨hi, fun c ec => ⟨hi, fun d ed => ⟨eq.trans ep.symm, ?_⟩⟩⟩⟩)
      rw [ea, eb, ec, ed, hb_b0]; exact rfl
    · exact br_f h0 (br_f h7 (br_f h0 (br_f h7 ⟨rfl, rfl⟩)))
/-- one peer's grade z (a byte) stored or not: both sides go on with one count and one status array -/
theorem hb_join (x c z : Int32) (l s : Nat → Int32) (j : Nat) (hj : j < 8) (hz : vp_nar .byte z.toInt8.toInt32 = z) : ∃ (c' : Int32) (s' : Nat → Int32), (∀ (post : Int32 → SX → Prop) (J : Int32 → Int32 → (Nat → Int32) → (Nat → Int32) → Prop), J c' (nI (j + 1)) l s' → wX_sweep_51 post J x c (nI j) z l s) ∧ (∀ (post : Int32 → SY → Prop) (J : Int32 → Int32 → (Nat → Int32) → (Nat → Int32) → Prop), J c' (nI (j + 1)) l s' → wY_sweep_45 post J x c (nI j) z l s) := by
  have hi : vp_in (nI j) 8 := vp_in_nI (by omega) (by omega)
  by_cases e : z = s (nI j).toNatClampNeg
  · refine ⟨c, s, fun post J h => ⟨hi, br_t e fun y ey => ?_⟩, fun post J h => ⟨hi, br_t e.symm fun y ey => ?_⟩⟩
    · rw [ey, nI_1]; exact h
    · rw [ey, nI_1]; exact h
  · have e' : ¬ s (nI j).toNatClampNeg = z := fun q => e q.symm
    refine ⟨c + 1, upd s (nI j).toNatClampNeg z, fun post J h => ⟨hi, br_f e fun y ey => ⟨hi, fun a ea w ew => ?_⟩⟩, fun post J h => ⟨hi, br_f e' ⟨hi, fun a ea y ey w ew => ?_⟩⟩⟩
    · rw [ey, ea, ew, nI_1]; exact h
    · rw [ey, ea, ew, nI_1, hz]; exact h
/-- a peer's grade by its age -/
theorem hb_sweep (x : Int32) (l : Nat → Int32) : ∀ d j : Nat, j + d = 8 → ∀ (c : Int32) (s : Nat → Int32), ∃ (r : Int32) (s' : Nat → Int32), (∀ post : Int32 → SX → Prop, post r (l, s') → wX_sweep_4 post x (d + 1) c (nI j) l s) ∧ (∀ post : Int32 → SY → Prop, post r (l, s') → wY_sweep_4 post x (d + 1) c (nI j) l s) := by
  intro d
  induction d with
  | zero =>
    intro j hj c s
    have h : (8 : Int32) ≤ nI j := by rw [← hb_8]; exact nI_le (by omega) (by omega)
    exact ⟨c, s, fun _ hp => br_t h hp, fun _ hp => br_t h hp⟩
  | succ d ih =>
    intro j hj c s
    have h : ¬ (8 : Int32) ≤ nI j := by rw [← hb_8]; exact nI_ge (by omega) (by omega)
    have hi : vp_in (nI j) 8 := vp_in_nI (by omega) (by omega)
    by_cases hA : ((x - (l (nI j).toNatClampNeg)).toUInt32 % 65536).toInt32 < 1000
    · by_cases hB : ((x - (l (nI j).toNatClampNeg)).toUInt32 % 65536).toInt32 < 100
      · obtain ⟨c', s1, gX, gY⟩ := hb_join x c 0 l s j (by omega) hb_c0
        obtain ⟨r, s', hX, hY⟩ := ih (j + 1) (by omega) c' s1
        exact ⟨r, s', fun post hp => br_f h ⟨hi, nm_e (br_t hA (br_t hB (gX post _ (hX post hp))))⟩, fun post hp => br_f h ⟨hi, nm_e (br_t hA (br_t hB (gY post _ (hY post hp))))⟩⟩
      · obtain ⟨c', s1, gX, gY⟩ := hb_join x c 1 l s j (by omega) hb_c1
        obtain ⟨r, s', hX, hY⟩ := ih (j + 1) (by omega) c' s1
        exact ⟨r, s', fun post hp => br_f h ⟨hi, nm_e (br_t hA (br_f hB (gX post _ (hX post hp))))⟩, fun post hp => br_f h ⟨hi, nm_e (br_t hA (br_f hB (gY post _ (hY post hp))))⟩⟩
    · obtain ⟨c', s1, gX, gY⟩ := hb_join x c 2 l s j (by omega) hb_c2
      obtain ⟨r, s', hX, hY⟩ := ih (j + 1) (by omega) c' s1
      exact ⟨r, s', fun post hp => br_f h ⟨hi, nm_e (br_f hA (gX post _ (hX post hp)))⟩, fun post hp => br_f h ⟨hi, nm_e (br_f hA (gY post _ (hY post hp)))⟩⟩
theorem i_vc_sweep {k : Nat} {u : SX} {v : SY} (I : i_Rel k u v) (hk : k + 3 ≤ 1536) (v1 : Int32) : wpX_sweep (fun r u' => wpY_sweep (fun r' v' => r' = r ∧ i_Rel (k + 3) u' v') v v1) u v1 := by
  cases I
  obtain ⟨l, s⟩ := u
  obtain ⟨r, s', hX, hY⟩ := hb_sweep v1 l 8 0 rfl 0 s
  rw [nI_0] at hX hY
  exact ⟨_, hX _ ⟨_, hY _ ⟨rfl, rfl⟩⟩⟩
theorem hb_mask (l s : Nat → Int32) : ∀ d j : Nat, j + d = 8 → ∀ m : Int32, ∃ r : Int32, (∀ post : Int32 → Prop, post r → wX_aliveMask_4 post l s (d + 1) m (nI j)) ∧ (∀ post : Int32 → Prop, post r → wY_aliveMask_4 post l s (d + 1) m (nI j)) := by
  intro d
  induction d with
  | zero =>
    intro j hj m
    have h : (8 : Int32) ≤ nI j := by rw [← hb_8]; exact nI_le (by omega) (by omega)
    exact ⟨m, fun _ hp => br_t h hp, fun _ hp => br_t h hp⟩
  | succ d ih =>
    intro j hj m
    have h : ¬ (8 : Int32) ≤ nI j := by rw [← hb_8]; exact nI_ge (by omega) (by omega)
    have hi : vp_in (nI j) 8 := vp_in_nI (by omega) (by omega)
    by_cases z : s (nI j).toNatClampNeg = 2
    · obtain ⟨r, hX, hY⟩ := ih (j + 1) (by omega) m
      refine ⟨r, fun post hp => br_f h ⟨hi, br_t z fun y ey => ?_⟩, fun post hp => br_f h ⟨hi, br_t z fun y ey => ?_⟩⟩
      · rw [ey, nI_1]; exact hX post hp
      · rw [ey, nI_1]; exact hY post hp
    · obtain ⟨r, hX, hY⟩ := ih (j + 1) (by omega) (m ||| ((1 : Int32) <<< (nI j &&& 31)))
      refine ⟨r, fun post hp => br_f h ⟨hi, br_f z fun w ew y ey => ?_⟩, fun post hp => br_f h ⟨hi, br_f z fun w ew y ey => ?_⟩⟩
      · rw [ew, ey, nI_1]; exact hX post hp
      · rw [ew, ey, nI_1]; exact hY post hp
theorem i_vc_aliveMask {k : Nat} {u : SX} {v : SY} (I : i_Rel k u v) (hk : k + 3 ≤ 1536) : wpX_aliveMask (fun r => wpY_aliveMask (fun r' => r' = r ∧ i_Rel (k + 3) u v) v) u := by
  cases I
  obtain ⟨l, s⟩ := u
  obtain ⟨r, hX, hY⟩ := hb_mask l s 8 0 rfl 0
  rw [nI_0] at hX hY
  exact ⟨_, hX _ ⟨_, hY _ ⟨rfl, rfl⟩⟩⟩
end
