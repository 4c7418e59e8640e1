section
/-- a flight size of at least one is no divisor of nought -/
theorem pq_nz {f : Int32} (h : (1 : Int32) ≤ f) : ¬ f.toInt64 = 0 := by
  intro z
  have e : f.toInt64.toInt = f.toInt := Int32.toInt_toInt64 f
  have z0 : f.toInt64.toInt = 0 := by rw [z]; rfl
  have h1 : (1 : Int32).toInt ≤ f.toInt := Int32.le_iff_toInt_le.mp h
  have h2 : (1 : Int32).toInt = 1 := by decide
  omega

/-- the last clamps (161, 171; 163, 173): one answer for both sides -/
theorem pq_end (x d o : Int64) (f s : Int32) : ∃ r : Int32,
    (∀ post : Int32 → SX → Prop, post r (d, o, f, s) → wX_ack_161 post x d o f s) ∧
    (∀ post : Int32 → SY → Prop, post r (d, o, f, s) → wY_ack_163 post x d o f s) := by
  by_cases h0 : (0 : Int64) ≤ x
  · by_cases h1 : x ≤ 2147483647
    · exact ⟨_, fun _ hp => br_t h0 (br_t h1 hp), fun _ hp => br_t h0 (br_t h1 hp)⟩
    · exact ⟨_, fun _ hp => br_t h0 (br_f h1 hp), fun _ hp => br_t h0 (br_f h1 hp)⟩
  · have h1 : (0 : Int64) ≤ 2147483647 := by decide
    exact ⟨_, fun _ hp => br_f h0 (br_t h1 hp), fun _ hp => br_f h0 (br_t h1 hp)⟩

/-- the slow start arm from the join behind its limit (134; 133) -/
theorem pq_lim (p l d o : Int64) (f s : Int32) : ∃ r : Int32,
    (∀ post : Int32 → SX → Prop, post r (d, o, f, s) → wX_ack_134 post p s.toInt64 l d o f s) ∧
    (∀ post : Int32 → SY → Prop, post r (d, o, f, s) → wY_ack_133 post p l d o f s) := by
  by_cases h : s.toInt64 - p ≤ l + 1460
  · obtain ⟨r, hX, hY⟩ := pq_end (s.toInt64 - p) d o f s
    refine ⟨r, fun post hp => ?_, fun post hp => ?_⟩
    · intro y ey z ez; subst ey; subst ez; exact br_t h (hX post hp)
    · intro y ey z ez; subst ey; subst ez; exact br_t h (hY post hp)
  · obtain ⟨r, hX, hY⟩ := pq_end (l + 1460) d o f s
    refine ⟨r, fun post hp => ?_, fun post hp => ?_⟩
    · intro y ey z ez; subst ey; subst ez; exact br_f h (hX post hp)
    · intro y ey z ez; subst ey; subst ez; exact br_f h (hY post hp)

/-- the proportional arm from the join behind its quotient (103; 100) -/
theorem pq_quo (q d o : Int64) (f s : Int32) : ∃ r : Int32,
    (∀ post : Int32 → SX → Prop, post r (d, o, f, s) → wX_ack_103 post q d o f s) ∧
    (∀ post : Int32 → SY → Prop, post r (d, o, f, s) → wY_ack_100 post q d o f s) := by
  obtain ⟨r, hX, hY⟩ := pq_end (q - o) d o f s
  refine ⟨r, fun post hp => ?_, fun post hp => ?_⟩
  · intro y ey; subst ey; exact hX post hp
  · intro y ey; subst ey; exact hY post hp

/-- from the join behind the new count of delivered bytes (45; 48): X's own field is the old one, d0 -/
theorem pq_mid (a p n d0 o : Int64) (f s : Int32) (hf : (1 : Int32) ≤ f) : ∃ r : Int32,
    (∀ post : Int32 → SX → Prop, post r (n, o, f, s) → wX_ack_45 post a p n d0 o f s) ∧
    (∀ post : Int32 → SY → Prop, post r (n, o, f, s) → wY_ack_48 post a p n o f s) := by
  have nz := pq_nz hf
  by_cases h : p ≤ s.toInt64
  · by_cases hl : a ≤ n - o
    · obtain ⟨r, hX, hY⟩ := pq_lim p (n - o) n o f s
      refine ⟨r, fun post hp => br_t h ?_, fun post hp => br_t h ?_⟩
      · intro y ey; subst ey; exact br_t hl (hX post hp)
      · intro y ey; subst ey; exact br_t hl (hY post hp)
    · obtain ⟨r, hX, hY⟩ := pq_lim p a n o f s
      refine ⟨r, fun post hp => br_t h ?_, fun post hp => br_t h ?_⟩
      · intro y ey; subst ey; exact br_f hl (hX post hp)
      · intro y ey; subst ey; exact br_f hl (hY post hp)
  · by_cases hz : (n * s.toInt64 - n * s.toInt64 / f.toInt64 * f.toInt64) = 0
    · obtain ⟨r, hX, hY⟩ := pq_quo (n * s.toInt64 / f.toInt64) n o f s
      refine ⟨r, fun post hp => br_f h ?_, fun post hp => br_f h ?_⟩
      · intro y ey; subst ey
        refine ⟨nz, ?_⟩
        intro q eq; subst eq
        exact ⟨nz, br_t hz (hX post hp)⟩
      · intro y ey; subst ey
        refine ⟨nz, ?_⟩
        intro q eq; subst eq
        exact ⟨nz, br_t hz (hY post hp)⟩
    · obtain ⟨r, hX, hY⟩ := pq_quo (n * s.toInt64 / f.toInt64 + 1) n o f s
      refine ⟨r, fun post hp => br_f h ?_, fun post hp => br_f h ?_⟩
      · intro y ey; subst ey
        refine ⟨nz, ?_⟩
        intro q eq; subst eq
        refine ⟨nz, br_f hz ?_⟩
        intro t et; subst et; exact hX post hp
      · intro y ey; subst ey
        refine ⟨nz, ?_⟩
        intro q eq; subst eq
        refine ⟨nz, br_f hz ?_⟩
        intro t et; subst et; exact hY post hp

/-- from the join behind the two clamped arguments (21; 21): one answer and one new count -/
theorem pq_add (a p d o : Int64) (f s : Int32) (hf : (1 : Int32) ≤ f) : ∃ (r : Int32) (n : Int64),
    (∀ post : Int32 → SX → Prop, post r (n, o, f, s) → wX_ack_21 post a p d o f s) ∧
    (∀ post : Int32 → SY → Prop, post r (n, o, f, s) → wY_ack_21 post a p d o f s) := by
  by_cases h : d + a ≤ 2147483647
  · obtain ⟨r, hX, hY⟩ := pq_mid a p (d + a) d o f s hf
    refine ⟨r, d + a, fun post hp => ?_, fun post hp => ?_⟩
    · intro y ey; subst ey; exact br_t h (hX post hp)
    · intro y ey; subst ey; exact br_t h (hY post hp)
  · obtain ⟨r, hX, hY⟩ := pq_mid a p 2147483647 d o f s hf
    refine ⟨r, 2147483647, fun post hp => ?_, fun post hp => ?_⟩
    · intro y ey; subst ey; exact br_f h (hX post hp)
    · intro y ey; subst ey; exact br_f h (hY post hp)

/-- the whole of ack: one answer and one new count for both sides -/
theorem pq_ack (d o : Int64) (f s : Int32) (hf : (1 : Int32) ≤ f) (v1 v2 : Int32) : ∃ (r : Int32) (n : Int64),
    (∀ post : Int32 → SX → Prop, post r (n, o, f, s) → wpX_ack post (d, o, f, s) v1 v2) ∧
    (∀ post : Int32 → SY → Prop, post r (n, o, f, s) → wpY_ack post (d, o, f, s) v1 v2) := by
  by_cases h1 : (0 : Int32) ≤ v1
  · by_cases h2 : (0 : Int32) ≤ v2
    · obtain ⟨r, n, hX, hY⟩ := pq_add v1.toInt64 v2.toInt64 d o f s hf
      exact ⟨r, n, fun post hp => br_t h1 (br_t h2 (hX post hp)), fun post hp => br_t h1 (br_t h2 (hY post hp))⟩
    · obtain ⟨r, n, hX, hY⟩ := pq_add v1.toInt64 0 d o f s hf
      exact ⟨r, n, fun post hp => br_t h1 (br_f h2 (hX post hp)), fun post hp => br_t h1 (br_f h2 (hY post hp))⟩
  · by_cases h2 : (0 : Int32) ≤ v2
    · obtain ⟨r, n, hX, hY⟩ := pq_add 0 v2.toInt64 d o f s hf
      exact ⟨r, n, fun post hp => br_f h1 (br_t h2 (hX post hp)), fun post hp => br_f h1 (br_t h2 (hY post hp))⟩
    · obtain ⟨r, n, hX, hY⟩ := pq_add 0 0 d o f s hf
      exact ⟨r, n, fun post hp => br_f h1 (br_f h2 (hX post hp)), fun post hp => br_f h1 (br_f h2 (hY post hp))⟩
end
section
/-- the two objects hold the same four fields, and the flight size is at least one -/
def i_Rel (k : Nat) (u : SX) (v : SY) : Prop := u = v ∧ (1 : Int32) ≤ u.2.2.1
theorem i_up {k : Nat} {u : SX} {v : SY} (h : i_Rel k u v) : i_Rel (k + 3) u v := h
theorem i_vc0 : wpX_init (fun u => wpY_init (fun v => i_Rel 0 u v)) := by
  have h : (1 : Int32) ≤ 1 := by decide
  exact And.intro rfl h
theorem i_vc_enter {k : Nat} {u : SX} {v : SY} (I : i_Rel k u v) (hk : k + 3 ≤ 1536) (v1 : Int32) (v2 : Int32) : wpX_enter (fun r u' => wpY_enter (fun r' v' => r' = r ∧ i_Rel (k + 3) u' v') v v1 v2) u v1 v2 := by
  obtain ⟨e, hf⟩ := I
  subst e
  obtain ⟨d, o, f, s⟩ := u
  have h11 : (1 : Int32) ≤ 1 := by decide
  by_cases h1 : (1 : Int32) ≤ v1
  · by_cases h2 : (0 : Int32) ≤ v2
    · exact br_t h1 (br_t h2 (br_t h1 (br_t h2 (And.intro rfl (And.intro rfl h1)))))
    · exact br_t h1 (br_f h2 (br_t h1 (br_f h2 (And.intro rfl (And.intro rfl h1)))))
  · by_cases h2 : (0 : Int32) ≤ v2
    · exact br_f h1 (br_t h2 (br_f h1 (br_t h2 (And.intro rfl (And.intro rfl h11)))))
    · exact br_f h1 (br_f h2 (br_f h1 (br_f h2 (And.intro rfl (And.intro rfl h11)))))
theorem i_vc_ack {k : Nat} {u : SX} {v : SY} (I : i_Rel k u v) (hk : k + 3 ≤ 1536) (v1 : Int32) (v2 : Int32) : wpX_ack (fun r u' => wpY_ack (fun r' v' => r' = r ∧ i_Rel (k + 3) u' v') v v1 v2) u v1 v2 := by
  obtain ⟨e, hf⟩ := I
  subst e
  obtain ⟨d, o, f, s⟩ := u
  obtain ⟨r, n, hX, hY⟩ := pq_ack d o f s hf v1 v2
  exact hX _ (hY _ (And.intro rfl (And.intro rfl hf)))
theorem i_vc_sent {k : Nat} {u : SX} {v : SY} (I : i_Rel k u v) (hk : k + 3 ≤ 1536) (v1 : Int32) : wpX_sent (fun r u' => wpY_sent (fun r' v' => r' = r ∧ i_Rel (k + 3) u' v') v v1) u v1 := by
  obtain ⟨e, hf⟩ := I
  subst e
  obtain ⟨d, o, f, s⟩ := u
  by_cases h1 : (0 : Int32) ≤ v1
  · by_cases h2 : o + v1.toInt64 ≤ 2147483647
    · refine br_t h1 ?_
      intro y ey; subst ey
      refine br_t h2 (br_t h1 ?_)
      intro z ez; subst ez
      exact br_t h2 (And.intro rfl (And.intro rfl hf))
    · refine br_t h1 ?_
      intro y ey; subst ey
      refine br_f h2 (br_t h1 ?_)
      intro z ez; subst ez
      exact br_f h2 (And.intro rfl (And.intro rfl hf))
  · exact br_f h1 (br_f h1 (And.intro rfl (And.intro rfl hf)))
theorem i_vc_packed {k : Nat} {u : SX} {v : SY} (I : i_Rel k u v) (hk : k + 3 ≤ 1536) : wpX_packed (fun r => wpY_packed (fun r' => r' = r ∧ i_Rel (k + 3) u v) v) u := by
  obtain ⟨e, hf⟩ := I
  subst e
  obtain ⟨d, o, f, s⟩ := u
  exact And.intro rfl (And.intro rfl hf)
end
