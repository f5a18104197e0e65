section
/-- the two objects hold the same worst gap, limit and count -/
def i_Rel (_ : Nat) (u : SX) (v : SY) : Prop := u.1 = v.1 ∧ u.2.1 = v.2.2 ∧ u.2.2 = v.2.1
theorem i_up {k : Nat} {u : SX} {v : SY} (h : i_Rel k u v) : i_Rel (k + 5) u v := h
theorem i_vc0 (k0 : Int32) : wpX_init (fun u => wpY_init (fun v => i_Rel 1 u v) k0) k0 := by
  by_cases h : 0 ≤ k0
  · exact br_t h (br_t h ⟨rfl, rfl, rfl⟩)
  · exact br_f h (br_f h ⟨rfl, rfl, rfl⟩)
/-- behind the distance d: both sides count and keep the maximum alike -/
theorem ug_tail (d w : Int64) (c l : Int32) : ∃ (w' : Int64) (c' : Int32),
    (∀ post : Int64 → SX → Prop, post d (w', c', l) → wX_gap_89 post d w c l) ∧
    (∀ post : Int64 → SY → Prop, post d (w', l, c') → wY_gap_84 post d w l c) := by
  by_cases h1 : d ≤ l.toInt64
  · by_cases h2 : d ≤ w
    · exact ⟨w, c, fun _ hp => br_t h1 (br_t h2 hp), fun _ hp => br_t h1 (br_t h2 hp)⟩
    · exact ⟨d, c, fun _ hp => br_t h1 (br_f h2 hp), fun _ hp => br_t h1 (br_f h2 hp)⟩
  · by_cases h2 : d ≤ w
    · refine ⟨w, c + 1, fun _ hp => br_f h1 fun x ex => ?_, fun _ hp => br_f h1 fun x ex => ?_⟩
      · subst ex; exact br_t h2 hp
      · subst ex; exact br_t h2 hp
    · refine ⟨d, c + 1, fun _ hp => br_f h1 fun x ex => ?_, fun _ hp => br_f h1 fun x ex => ?_⟩
      · subst ex; exact br_f h2 hp
      · subst ex; exact br_f h2 hp
theorem ug_le_of_lt {x y : Int64} (h : x < y) : x ≤ y := by
  rw [Int64.lt_iff_toInt_lt] at h
  rw [Int64.le_iff_toInt_le]
  omega
theorem ug_eq_of {x y : Int64} (h : ¬ x < y) (g : x ≤ y) : x = y := by
  rw [Int64.lt_iff_toInt_lt] at h
  rw [Int64.le_iff_toInt_le] at g
  exact Int64.toInt_inj.mp (by omega)
/-- the distance of the magnitudes x, y with the signs' flags s, t: one d on both sides (x = y: X takes x - y, Y takes y - x) -/
theorem ug_dist (x y w : Int64) (s t c l : Int32) : ∃ (d w' : Int64) (c' : Int32),
    (∀ post : Int64 → SX → Prop, post d (w', c', l) → wX_gap_36 post x y s t w c l) ∧
    (∀ post : Int64 → SY → Prop, post d (w', l, c') → wY_gap_36 post x y s t w l c) := by
  by_cases hz : t = s
  · by_cases h1 : x < y
    · obtain ⟨w', c', hX, hY⟩ := ug_tail (y - x) w c l
      exact ⟨y - x, w', c', fun p hp => br_t hz (br_t h1 (hX p hp)), fun p hp => br_t hz (br_t (ug_le_of_lt h1) (hY p hp))⟩
    · by_cases h2 : x ≤ y
      · cases ug_eq_of h1 h2
        obtain ⟨w', c', hX, hY⟩ := ug_tail (x - x) w c l
        exact ⟨x - x, w', c', fun p hp => br_t hz (br_f h1 (hX p hp)), fun p hp => br_t hz (br_t h2 (hY p hp))⟩
      · obtain ⟨w', c', hX, hY⟩ := ug_tail (x - y) w c l
        exact ⟨x - y, w', c', fun p hp => br_t hz (br_f h1 (hX p hp)), fun p hp => br_t hz (br_f h2 (hY p hp))⟩
  · by_cases h1 : 0 ≤ x + y
    · obtain ⟨w', c', hX, hY⟩ := ug_tail (x + y) w c l
      refine ⟨x + y, w', c', fun p hp => br_f hz fun e ee => ?_, fun p hp => br_f hz fun e ee => ?_⟩
      · subst ee; exact br_t h1 (hX p hp)
      · subst ee; exact br_t h1 (hY p hp)
    · obtain ⟨w', c', hX, hY⟩ := ug_tail 9223372036854775807 w c l
      refine ⟨9223372036854775807, w', c', fun p hp => br_f hz fun e ee => ?_, fun p hp => br_f hz fun e ee => ?_⟩
      · subst ee; exact br_f h1 (hX p hp)
      · subst ee; exact br_f h1 (hY p hp)
/-- gap as one outcome: an answer and a next state that serve every post, on both sides -/
theorem ug_gap (a b w : Int64) (c l : Int32) : ∃ (d w' : Int64) (c' : Int32),
    (∀ post : Int64 → SX → Prop, post d (w', c', l) → wpX_gap post (w, c, l) a b) ∧
    (∀ post : Int64 → SY → Prop, post d (w', l, c') → wpY_gap post (w, l, c) a b) := by
  by_cases ha : 0 ≤ a
  · by_cases hb : 0 ≤ b
    · obtain ⟨d, w', c', hX, hY⟩ := ug_dist (a &&& 9223372036854775807) (b &&& 9223372036854775807) w 0 0 c l
      refine ⟨d, w', c', fun p hp x ex y ey => ?_, fun p hp x ex y ey => ?_⟩
      · subst ex ey; exact br_t ha (br_t hb (hX p hp))
      · subst ex ey; exact br_t ha (br_t hb (hY p hp))
    · obtain ⟨d, w', c', hX, hY⟩ := ug_dist (a &&& 9223372036854775807) (b &&& 9223372036854775807) w 1 0 c l
      refine ⟨d, w', c', fun p hp x ex y ey => ?_, fun p hp x ex y ey => ?_⟩
      · subst ex ey; exact br_t ha (br_f hb (hX p hp))
      · subst ex ey; exact br_t ha (br_f hb (hY p hp))
  · by_cases hb : 0 ≤ b
    · obtain ⟨d, w', c', hX, hY⟩ := ug_dist (a &&& 9223372036854775807) (b &&& 9223372036854775807) w 0 1 c l
      refine ⟨d, w', c', fun p hp x ex y ey => ?_, fun p hp x ex y ey => ?_⟩
      · subst ex ey; exact br_f ha (br_t hb (hX p hp))
      · subst ex ey; exact br_f ha (br_t hb (hY p hp))
    · obtain ⟨d, w', c', hX, hY⟩ := ug_dist (a &&& 9223372036854775807) (b &&& 9223372036854775807) w 1 1 c l
      refine ⟨d, w', c', fun p hp x ex y ey => ?_, fun p hp x ex y ey => ?_⟩
      · subst ex ey; exact br_f ha (br_f hb (hX p hp))
      · subst ex ey; exact br_f ha (br_f hb (hY p hp))
theorem i_vc_gap {k : Nat} {u : SX} {v : SY} (I : i_Rel k u v) (hk : k + 5 ≤ 2561) (a0 : Int64) (a1 : Int64) : wpX_gap (fun r u' => wpY_gap (fun r' v' => r' = r ∧ i_Rel (k + 5) u' v') v a0 a1) u a0 a1 := by
  obtain ⟨w, c, l⟩ := u
  obtain ⟨w2, l2, c2⟩ := v
  obtain ⟨e1, e2, e3⟩ := I
  cases e1; cases e2; cases e3
  obtain ⟨d, w', c', hX, hY⟩ := ug_gap a0 a1 w c l
  exact hX _ (hY _ ⟨rfl, rfl, rfl, rfl⟩)
theorem i_vc_worst {k : Nat} {u : SX} {v : SY} (I : i_Rel k u v) (hk : k + 5 ≤ 2561) : wpX_worst (fun r => wpY_worst (fun r' => r' = r ∧ i_Rel (k + 5) u v) v) u := by
  obtain ⟨w, c, l⟩ := u
  obtain ⟨w2, l2, c2⟩ := v
  exact And.intro I.1.symm I
theorem i_vc_over {k : Nat} {u : SX} {v : SY} (I : i_Rel k u v) (hk : k + 5 ≤ 2561) (v1 : Int32) : wpX_over (fun r u' => wpY_over (fun r' v' => r' = r ∧ i_Rel (k + 5) u' v') v v1) u v1 := by
  obtain ⟨w, c, l⟩ := u
  obtain ⟨w2, l2, c2⟩ := v
  obtain ⟨e1, e2, e3⟩ := I
  cases e1; cases e2; cases e3
  by_cases h : 0 ≤ v1
  · exact br_t h (br_t h ⟨rfl, rfl, rfl, rfl⟩)
  · exact br_f h (br_f h ⟨rfl, rfl, rfl, rfl⟩)
end
