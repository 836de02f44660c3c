section
/-- the step sizes that can occur: the powers of two from 1 to 64 -/
def fq_S (s : Int32) : Prop := s = 1 ∨ s = 2 ∨ s = 4 ∨ s = 8 ∨ s = 16 ∨ s = 32 ∨ s = 64
/-- below 64 the doubled step is again such a step; the reference's short sum is the component's product -/
theorem fq_dbl {s : Int32} (h : fq_S s) (hl : ¬ (64 : Int32) ≤ s) : fq_S (s * 2) ∧ (s + s).toInt16.toInt32 = s * 2 := by
  rcases h with rfl | rfl | rfl | rfl | rfl | rfl | rfl
  · exact ⟨Or.inr (Or.inl (by decide)), by decide⟩
  · exact ⟨Or.inr (Or.inr (Or.inl (by decide))), by decide⟩
  · exact ⟨Or.inr (Or.inr (Or.inr (Or.inl (by decide)))), by decide⟩
  · exact ⟨Or.inr (Or.inr (Or.inr (Or.inr (Or.inl (by decide))))), by decide⟩
  · exact ⟨Or.inr (Or.inr (Or.inr (Or.inr (Or.inr (Or.inl (by decide)))))), by decide⟩
  · exact ⟨Or.inr (Or.inr (Or.inr (Or.inr (Or.inr (Or.inr (by decide)))))), by decide⟩
  · exact absurd (by decide) hl
/-- such a step is a short -/
theorem fq_nar {s : Int32} (h : fq_S s) : narrow .short (.int s) = .int s ∧ fits .short (.int s) = true := by
  rcases h with rfl | rfl | rfl | rfl | rfl | rfl | rfl <;> exact ⟨congrArg Value.int (by decide), by decide⟩
/-- the signed step: the reference's int product, widened, is the component's long product -/
theorem fq_mul {d s : Int32} (hd : d = 1 ∨ d = -1) (h : fq_S s) : (d * s).toInt64 = d.toInt64 * s.toInt64 := by
  rcases hd with rfl | rfl <;> rcases h with rfl | rfl | rfl | rfl | rfl | rfl | rfl <;> decide
end
section
/-- from the move on: one outcome for both sides -/
theorem fq_move (x d e s l : Int32) (g : Int64) (hd : d = 1 ∨ d = -1) (hs : fq_S s) : ∃ (r : Int32) (w : Int32 × Int32 × Int32 × Int64), fq_S w.2.1 ∧ (∀ post : Int32 → SX → Prop, post r w → wX_feed_98 post x d e s l g) ∧ (∀ post : Int32 → SY → Prop, post r w → wY_feed_118 post x d s e s l g) := by
  have hm := fq_mul hd hs
  rcases hd with rfl | rfl
  · have h0 : ¬ (1 : Int32) ≤ 0 := by decide
    have h1 : (0 : Int32) ≤ 1 := by decide
    by_cases c : e.toInt64 + (1 : Int32).toInt64 * s.toInt64 ≤ x.toInt64
    · refine ⟨((e.toInt64 + (1 : Int32).toInt64 * s.toInt64) - e.toInt64).toInt32, ((e.toInt64 + (1 : Int32).toInt64 * s.toInt64).toInt32, s, 1, g), hs, fun post hp => ?_, fun post hp => ?_⟩
      · exact nm_e (br_f h0 (br_t c hp))
      · exact nm_r (congrArg (fun t => e.toInt64 + t) hm) (br_f h0 (br_t c (br_t h1 (nm_e hp))))
    · refine ⟨(x.toInt64 - e.toInt64).toInt32, (x.toInt64.toInt32, s, 1, g), hs, fun post hp => ?_, fun post hp => ?_⟩
      · exact nm_e (br_f h0 (br_f c hp))
      · exact nm_r (congrArg (fun t => e.toInt64 + t) hm) (br_f h0 (br_f c (br_t h1 (nm_e hp))))
  · have h0 : (-1 : Int32) ≤ 0 := by decide
    have h1 : ¬ (0 : Int32) ≤ -1 := by decide
    by_cases c : x.toInt64 ≤ e.toInt64 + (-1 : Int32).toInt64 * s.toInt64
    · refine ⟨((e.toInt64 + (-1 : Int32).toInt64 * s.toInt64) - e.toInt64).toInt32, ((e.toInt64 + (-1 : Int32).toInt64 * s.toInt64).toInt32, s, -1, g), hs, fun post hp => ?_, fun post hp => ?_⟩
      · exact nm_e (br_t h0 (br_t c hp))
      · exact nm_r (congrArg (fun t => e.toInt64 + t) hm) (br_t h0 (br_f h1 (br_t c (nm_e hp))))
    · refine ⟨(x.toInt64 - e.toInt64).toInt32, (x.toInt64.toInt32, s, -1, g), hs, fun post hp => ?_, fun post hp => ?_⟩
      · exact nm_e (br_t h0 (br_f c hp))
      · exact nm_r (congrArg (fun t => e.toInt64 + t) hm) (br_t h0 (br_f h1 (br_f c (nm_e hp))))
/-- from the chosen direction on: the step is set anew, doubled or kept, then the move -/
theorem fq_dir (x d e s l : Int32) (g : Int64) (hd : d = 1 ∨ d = -1) (hs : fq_S s) : ∃ (r : Int32) (w : Int32 × Int32 × Int32 × Int64), fq_S w.2.1 ∧ (∀ post : Int32 → SX → Prop, post r w → wX_feed_63 post x d e s l g) ∧ (∀ post : Int32 → SY → Prop, post r w → wY_feed_62 post x d e s l g) := by
  have hn : ¬ d = 0 := by rcases hd with rfl | rfl <;> decide
  by_cases c : d = l
  · by_cases h64 : (64 : Int32) ≤ s
    · obtain ⟨r, w, hw, hX, hY⟩ := fq_move x d e s l g hd hs
      exact ⟨r, w, hw, fun post hp => br_t c (br_t h64 (hX post hp)), fun post hp => br_f hn (br_t c (br_t h64 (hY post hp)))⟩
    · have ⟨h2, e2⟩ := fq_dbl hs h64
      have ⟨n1, n2⟩ := fq_nar h2
      obtain ⟨r, w, hw, hX, hY⟩ := fq_move x d e (s * 2) l g hd h2
      refine ⟨r, w, hw, fun post hp => br_t c (br_f h64 (nm_e (hX post hp))), fun post hp => br_f hn (br_t c (br_f h64 ?_))⟩
      rw [e2]
      exact nm_e ⟨n1, n2, hY post hp⟩
  · obtain ⟨r, w, hw, hX, hY⟩ := fq_move x d e 1 l g hd (Or.inl rfl)
    exact ⟨r, w, hw, fun post hp => br_f c (hX post hp), fun post hp => br_f hn (br_f c (hY post hp))⟩
/-- from the coin on, the estimate not below the value or the coin 0 -/
theorem fq_low (x c e s l : Int32) (g : Int64) (hs : fq_S s) : ∃ (r : Int32) (w : Int32 × Int32 × Int32 × Int64), fq_S w.2.1 ∧ (∀ post : Int32 → SX → Prop, post r w → wX_feed_44 post x c e s l g) ∧ (∀ post : Int32 → SY → Prop, post r w → wY_feed_46 post x c 0 e s l g) := by
  by_cases h : e ≤ x
  · exact ⟨0, (e, s, l, g), hs, fun post hp => br_t h hp, fun post hp => br_t h (br_t rfl hp)⟩
  · by_cases hc : c = 0
    · obtain ⟨r, w, hw, hX, hY⟩ := fq_dir x (-1) e s l g (Or.inr rfl) hs
      exact ⟨r, w, hw, fun post hp => br_f h (br_t hc (hX post hp)), fun post hp => br_f h (br_t hc (hY post hp))⟩
    · exact ⟨0, (e, s, l, g), hs, fun post hp => br_f h (br_f hc hp), fun post hp => br_f h (br_f hc (br_t rfl hp))⟩
/-- the same for the estimate below the value and a coin that isn't 0 -/
theorem fq_up (x c e s l : Int32) (g : Int64) (hs : fq_S s) (h : ¬ x ≤ e) : ∃ (r : Int32) (w : Int32 × Int32 × Int32 × Int64), fq_S w.2.1 ∧ (∀ post : Int32 → SX → Prop, post r w → wX_feed_63 post x 1 e s l g) ∧ (∀ post : Int32 → SY → Prop, post r w → wY_feed_46 post x c 1 e s l g) := by
  have he : e ≤ x := by
    rw [Int32.le_iff_toInt_le] at h ⊢
    omega
  obtain ⟨r, w, hw, hX, hY⟩ := fq_dir x 1 e s l g (Or.inl rfl) hs
  exact ⟨r, w, hw, hX, fun post hp => br_t he (hY post hp)⟩
/-- the whole call: one outcome for both sides -/
theorem fq_feed (x e s l : Int32) (g : Int64) (hs : fq_S s) : ∃ (r : Int32) (w : Int32 × Int32 × Int32 × Int64), fq_S w.2.1 ∧ (∀ post : Int32 → SX → Prop, post r w → wpX_feed post (e, s, l, g) x) ∧ (∀ post : Int32 → SY → Prop, post r w → wpY_feed post (e, s, l, g) x) := by
  by_cases h : x ≤ e
  · obtain ⟨r, w, hw, hX, hY⟩ := fq_low x (((((g * 6364136223846793005) + 1442695040888963407).toUInt64 >>> ((33 : Int32).toInt64.toUInt64 &&& Int64.toUInt64 63)).toInt64).toInt32 &&& 3) e s l ((g * 6364136223846793005) + 1442695040888963407) hs
    exact ⟨r, w, hw, fun post hp => nm_e (nm_e (br_t h (hX post hp))), fun post hp => nm_e (nm_e (nm_e (br_t h (hY post hp))))⟩
  · by_cases hc : (((((g * 6364136223846793005) + 1442695040888963407).toUInt64 >>> ((33 : Int32).toInt64.toUInt64 &&& Int64.toUInt64 63)).toInt64).toInt32 &&& 3) = 0
    · obtain ⟨r, w, hw, hX, hY⟩ := fq_low x (((((g * 6364136223846793005) + 1442695040888963407).toUInt64 >>> ((33 : Int32).toInt64.toUInt64 &&& Int64.toUInt64 63)).toInt64).toInt32 &&& 3) e s l ((g * 6364136223846793005) + 1442695040888963407) hs
      exact ⟨r, w, hw, fun post hp => nm_e (nm_e (br_f h (br_t hc (hX post hp)))), fun post hp => nm_e (nm_e (nm_e (br_f h (br_t hc (hY post hp)))))⟩
    · obtain ⟨r, w, hw, hX, hY⟩ := fq_up x (((((g * 6364136223846793005) + 1442695040888963407).toUInt64 >>> ((33 : Int32).toInt64.toUInt64 &&& Int64.toUInt64 63)).toInt64).toInt32 &&& 3) e s l ((g * 6364136223846793005) + 1442695040888963407) hs h
      exact ⟨r, w, hw, fun post hp => nm_e (nm_e (br_f h (br_f hc (hX post hp)))), fun post hp => nm_e (nm_e (nm_e (br_f h (br_f hc (hY post hp)))))⟩
end
section
/-- the relation at the head of a turn: the two states are the same four numbers, and the step is a power of two from 1 to 64 -/
def i_Rel (_ : Nat) (u : SX) (v : SY) : Prop := v = u ∧ fq_S u.2.1
theorem i_up {k : Nat} {u : SX} {v : SY} (h : i_Rel k u v) : i_Rel (k + 2) u v := h
theorem i_vc0 (k0 : Int32) : wpX_init (fun u => wpY_init (fun v => i_Rel 1 u v) k0) k0 := ⟨rfl, Or.inl rfl⟩
theorem i_vc_feed {k : Nat} {u : SX} {v : SY} (I : i_Rel k u v) (hk : k + 2 ≤ 1025) (v1 : Int32) : wpX_feed (fun r u' => wpY_feed (fun r' v' => r' = r ∧ i_Rel (k + 2) u' v') v v1) u v1 := by
  obtain ⟨e, s, l, g⟩ := u
  obtain ⟨hv, hs⟩ := I
  subst hv
  obtain ⟨r, w, hw, hX, hY⟩ := fq_feed v1 e s l g hs
  exact hX _ (hY _ ⟨rfl, rfl, hw⟩)
theorem i_vc_value {k : Nat} {u : SX} {v : SY} (I : i_Rel k u v) (hk : k + 2 ≤ 1025) : wpX_value (fun r => wpY_value (fun r' => r' = r ∧ i_Rel (k + 2) u v) v) u := by
  obtain ⟨e, s, l, g⟩ := u
  obtain ⟨hv, hs⟩ := I
  subst hv
  exact ⟨rfl, rfl, hs⟩
theorem i_vc_step {k : Nat} {u : SX} {v : SY} (I : i_Rel k u v) (hk : k + 2 ≤ 1025) : wpX_step (fun r => wpY_step (fun r' => r' = r ∧ i_Rel (k + 2) u v) v) u := by
  obtain ⟨e, s, l, g⟩ := u
  obtain ⟨hv, hs⟩ := I
  subst hv
  exact ⟨rfl, rfl, hs⟩
end
