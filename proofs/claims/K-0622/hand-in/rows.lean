section
/-! Two rows of the kit's PURE-ROWS.to-paste (pk_nb, pk_fb), and the two lockstep laws: one vote, one recount. -/
theorem pk_nb (z : Int32) : narrow .byte (.int z.toInt8.toInt32) = .int z.toInt8.toInt32 := congrArg Value.int (by simp)
theorem pk_fb (r : Int32) : fits .byte (.int r.toInt8.toInt32) = true := by
  have ⟨a, b⟩ := lg_i2b_range r
  have h1 : (-128 : Int32).toInt = -128 := by decide
  have h2 : (127 : Int32).toInt = 127 := by decide
  simp only [fits, Bool.and_eq_true, decide_eq_true_eq, Int32.le_iff_toInt_le, h1, h2]
  omega
theorem mv_01 : (0 : Int32) + 1 = 1 := by decide
/-- one vote into a block that isn't full: one outcome for both sides -/
theorem mv_step (v : Int32) (c : Nat) (hc : c < 16) (d b : Int32) (a : Nat → Int32) : ∃ (r d' b' : Int32) (a' : Nat → Int32),
    (∀ post : Int32 → SX → Prop, post r (nI (c + 1), d', b', a') → wX_vote_27 post v.toInt8.toInt32 (nI c) d b a) ∧
    (∀ post : Int32 → SY → Prop, post r (d', b', nI (c + 1), a') → wY_vote_27 post v.toInt8.toInt32 d b (nI c) a) := by
  have hi : vp_in (nI c) 16 := vp_in_nI hc (by decide)
  by_cases hb : b = 0
  · refine ⟨1, v.toInt8.toInt32, 1, upd a (nI c).toNatClampNeg (vp_nar .byte v.toInt8.toInt32), fun post hp => ?_, fun post hp => ?_⟩
    · unfold wX_vote_27
      refine ⟨hi, nm_e (nm_r (nI_1 c) ?_)⟩
      exact br_t hb hp
    · unfold wY_vote_27
      refine nm_r (nI_1 c) ⟨hi, nm_e ?_⟩
      refine br_t hb ⟨pk_nb v, pk_fb v, ?_⟩
      intro y ey
      rw [ey, hb, mv_01]
      exact hp
  · by_cases hd : v.toInt8.toInt32 = d
    · refine ⟨b + 1, d, b + 1, upd a (nI c).toNatClampNeg (vp_nar .byte v.toInt8.toInt32), fun post hp => ?_, fun post hp => ?_⟩
      · unfold wX_vote_27
        refine ⟨hi, nm_e (nm_r (nI_1 c) ?_)⟩
        exact br_f hb (br_t hd (nm_e hp))
      · unfold wY_vote_27
        refine nm_r (nI_1 c) ⟨hi, nm_e ?_⟩
        exact br_f hb (br_t hd (nm_e hp))
    · refine ⟨b - 1, d, b - 1, upd a (nI c).toNatClampNeg (vp_nar .byte v.toInt8.toInt32), fun post hp => ?_, fun post hp => ?_⟩
      · unfold wX_vote_27
        refine ⟨hi, nm_e (nm_r (nI_1 c) ?_)⟩
        exact br_f hb (br_f hd (nm_e hp))
      · unfold wY_vote_27
        refine nm_r (nI_1 c) ⟨hi, nm_e ?_⟩
        exact br_f hb (br_f hd (nm_e hp))
/-- the recount from place i on, with h hits so far: one answer for both sides -/
theorem mv_conf (c : Nat) (hc : c ≤ 16) (d b : Int32) (a : Nat → Int32) : ∀ m i : Nat, i + m = c → ∀ h : Int32, ∃ r : Int32,
    (∀ post : Int32 → Prop, post r → wX_confirmed_4 post (nI c) d b a (m + 1) h (nI i)) ∧
    (∀ post : Int32 → Prop, post r → wY_confirmed_4 post d b (nI c) a (m + 1) h (nI i)) := by
  intro m
  induction m with
  | zero =>
    intro i hi h
    have hle : nI c ≤ nI i := nI_le (by omega) (by omega)
    have e : h * 2 = 2 * h := Int32.mul_comm h 2
    by_cases z : 2 * h ≤ nI c
    · have z' : h * 2 ≤ nI c := by rw [e]; exact z
      exact ⟨0, fun _ hp => br_t hle (br_t z hp), fun _ hp => br_t hle (br_t z' hp)⟩
    · have z' : ¬ h * 2 ≤ nI c := by rw [e]; exact z
      exact ⟨1, fun _ hp => br_t hle (br_f z hp), fun _ hp => br_t hle (br_f z' hp)⟩
  | succ m ih =>
    intro i hi h
    have hle : ¬ nI c ≤ nI i := nI_ge (by omega) (by omega)
    have hin : vp_in (nI i) 16 := vp_in_nI (by omega) (by decide)
    by_cases z : a (nI i).toNatClampNeg = d
    · obtain ⟨r, hX, hY⟩ := ih (i + 1) (by omega) (h + 1)
      exact ⟨r, fun post hp => br_f hle ⟨hin, br_t z (nm_e (nm_r (nI_1 i) (hX post hp)))⟩, fun post hp => br_f hle ⟨hin, br_t z (nm_e (nm_r (nI_1 i) (hY post hp)))⟩⟩
    · obtain ⟨r, hX, hY⟩ := ih (i + 1) (by omega) h
      exact ⟨r, fun post hp => br_f hle ⟨hin, br_f z (nm_r (nI_1 i) (hX post hp))⟩, fun post hp => br_f hle ⟨hin, br_f z (nm_r (nI_1 i) (hY post hp))⟩⟩
end
section
/-- both sides hold the same count (at most 16), candidate, balance and block -/
def i_Rel (_ : Nat) (u : SX) (v : SY) : Prop := ∃ (c : Nat) (d b : Int32) (a : Nat → Int32), c ≤ 16 ∧ u = (nI c, d, b, a) ∧ v = (d, b, nI c, a)
theorem i_up {k : Nat} {u : SX} {v : SY} (h : i_Rel k u v) : i_Rel (k + 2) u v := h
theorem i_vc0 : wpX_init (fun u => wpY_init (fun v => i_Rel 0 u v)) := by
  unfold wpX_init wpY_init
  refine ⟨0, 0, 0, fun _ => 0, by decide, ?_, ?_⟩
  · rw [nI_0]
  · rw [nI_0]
theorem i_vc_vote {k : Nat} {u : SX} {v : SY} (I : i_Rel k u v) (hk : k + 2 ≤ 1024) (v1 : Int32) : wpX_vote (fun r u' => wpY_vote (fun r' v' => r' = r ∧ i_Rel (k + 2) u' v') v v1) u v1 := by
  obtain ⟨c, d, b, a, hc, rfl, rfl⟩ := I
  unfold wpX_vote wpY_vote
  dsimp only
  by_cases h : c < 16
  · have h16 : nI c < 16 := nI_lt (b := 16) h (by decide)
    obtain ⟨r, d', b', a', hX, hY⟩ := mv_step v1 c h d b a
    refine br_t h16 (hX _ ?_)
    refine br_t h16 (hY _ ?_)
    exact ⟨rfl, c + 1, d', b', a', by omega, rfl, rfl⟩
  · have h16 : ¬ nI c < 16 := nI_nlt (b := 16) (by omega) (by omega)
    obtain ⟨r, d', b', a', hX, hY⟩ := mv_step v1 0 (by decide) 0 0 a
    rw [nI_0] at hX hY
    refine br_f h16 (hX _ ?_)
    refine br_f h16 (hY _ ?_)
    exact ⟨rfl, 0 + 1, d', b', a', by decide, rfl, rfl⟩
theorem i_vc_candidate {k : Nat} {u : SX} {v : SY} (I : i_Rel k u v) (hk : k + 2 ≤ 1024) : wpX_candidate (fun r => wpY_candidate (fun r' => r' = r ∧ i_Rel (k + 2) u v) v) u := by
  obtain ⟨c, d, b, a, hc, rfl, rfl⟩ := I
  unfold wpX_candidate wpY_candidate
  exact ⟨rfl, c, d, b, a, hc, rfl, rfl⟩
theorem i_vc_confirmed {k : Nat} {u : SX} {v : SY} (I : i_Rel k u v) (hk : k + 2 ≤ 1024) : wpX_confirmed (fun r => wpY_confirmed (fun r' => r' = r ∧ i_Rel (k + 2) u v) v) u := by
  obtain ⟨c, d, b, a, hc, rfl, rfl⟩ := I
  obtain ⟨r, hX, hY⟩ := mv_conf c hc d b a c 0 (by omega) 0
  rw [nI_0] at hX hY
  unfold wpX_confirmed wpY_confirmed
  dsimp only
  refine ⟨c + 1, hX _ ?_⟩
  refine ⟨c + 1, hY _ ?_⟩
  exact ⟨rfl, c, d, b, a, hc, rfl, rfl⟩
theorem i_vc_count {k : Nat} {u : SX} {v : SY} (I : i_Rel k u v) (hk : k + 2 ≤ 1024) : wpX_count (fun r => wpY_count (fun r' => r' = r ∧ i_Rel (k + 2) u v) v) u := by
  obtain ⟨c, d, b, a, hc, rfl, rfl⟩ := I
  unfold wpX_count wpY_count
  exact ⟨rfl, c, d, b, a, hc, rfl, rfl⟩
end
