section
/-- the sum and the count are the same; the reference's two arrays hold, in cells 0 and 1, the component's four extremes -/
def i_Rel (_ : Nat) (u : SX) (v : SY) : Prop := u = (v.1, v.2.1, v.2.2.1 0, v.2.2.1 1, v.2.2.2 0, v.2.2.2 1)
theorem i_up {k : Nat} {u : SX} {v : SY} (h : i_Rel k u v) : i_Rel (k + 2) u v := h
theorem tm_us (f : Nat → Int32) (k : Nat) (x : Int32) : upd f k x k = x := if_pos rfl
theorem tm_un (f : Nat → Int32) {k j : Nat} (x : Int32) (h : j ≠ k) : upd f k x j = f j := if_neg h
/-- related states, from the four cells -/
theorem tm_rel {k : Nat} {s s' : Int64} {n n' a b c d : Int32} {lo hi : Nat → Int32} (hs : s = s') (hn : n = n') (ha : lo 0 = a) (hb : lo 1 = b) (hc : hi 0 = c) (hd : hi 1 = d) :
    i_Rel k (s, n, a, b, c, d) (s', n', lo, hi) := by
  subst hs hn ha hb hc hd
  exact rfl
theorem i_vc0 : wpX_init (fun u => wpY_init (fun v => i_Rel 0 u v)) := by
  intro a ea b eb c ec d ed
  refine tm_rel rfl rfl ?_ ?_ ?_ ?_
  · rw [eb, tm_un _ _ (by decide), ea, tm_us]
  · rw [eb, tm_us]
  · rw [ed, tm_un _ _ (by decide), ec, tm_us]
  · rw [ed, tm_us]
end
section
/-- the component's step of the two maxima: one new pair for every post -/
theorem tm_x48 (x : Int32) (s : Int64) (n a b : Int32) (hi : Nat → Int32) :
    ∃ c d : Int32, (∀ post : Int32 → SX → Prop, post (n + 1) (s, n + 1, a, b, c, d) → wX_add_48 post x s n a b (hi 0) (hi 1)) ∧
      ∀ lo : Nat → Int32, ∃ hi' : Nat → Int32, hi' 0 = c ∧ hi' 1 = d ∧ ∀ post : Int32 → SY → Prop, post (n + 1) (s, n + 1, lo, hi') → wY_add_60 post x s n lo hi := by
  by_cases h3 : x ≤ hi 0
  · by_cases h4 : x ≤ hi 1
    · exact ⟨hi 0, hi 1, fun post hp => br_t h3 (br_t h4 (nm_e hp)), fun lo => ⟨hi, rfl, rfl, fun post hp => br_t h3 (br_t h4 (nm_e hp))⟩⟩
    · exact ⟨hi 0, x, fun post hp => br_t h3 (br_f h4 (nm_e hp)), fun lo => ⟨upd hi 1 x, tm_un _ _ (by decide), tm_us _ _ _, fun post hp => br_t h3 (br_f h4 (nm_e (nm_e hp)))⟩⟩
  · refine ⟨x, hi 0, fun post hp => br_f h3 (nm_e hp), fun lo => ⟨upd (upd hi 1 (hi 0)) 0 x, tm_us _ _ _, ?_, fun post hp => br_f h3 (nm_e (nm_e (nm_e hp)))⟩⟩
    rw [tm_un _ _ (by decide), tm_us]
/-- both adds from related states: one answer, and related states again, for every pair of posts -/
theorem tm_add (k : Nat) (x : Int32) (s : Int64) (n : Int32) (lo hi : Nat → Int32) :
    ∃ (r : Int32) (u' : SX) (v' : SY), i_Rel k u' v' ∧ (∀ post : Int32 → SX → Prop, post r u' → wpX_add post (s, n, lo 0, lo 1, hi 0, hi 1) x) ∧
      ∀ post : Int32 → SY → Prop, post r v' → wpY_add post (s, n, lo, hi) x := by
  by_cases h1 : lo 0 ≤ x
  · by_cases h2 : lo 1 ≤ x
    · obtain ⟨c, d, hX, hY⟩ := tm_x48 x (s + x.toInt64) n (lo 0) (lo 1) hi
      obtain ⟨hi', e0, e1, hY⟩ := hY lo
      exact ⟨n + 1, (s + x.toInt64, n + 1, lo 0, lo 1, c, d), (s + x.toInt64, n + 1, lo, hi'), tm_rel rfl rfl rfl rfl e0 e1, fun post hp => nm_e (br_t h1 (br_t h2 (hX post hp))), fun post hp => nm_e (br_t h1 (br_t h2 (hY post hp)))⟩
    · obtain ⟨c, d, hX, hY⟩ := tm_x48 x (s + x.toInt64) n (lo 0) x hi
      obtain ⟨hi', e0, e1, hY⟩ := hY (upd lo 1 x)
      exact ⟨n + 1, (s + x.toInt64, n + 1, lo 0, x, c, d), (s + x.toInt64, n + 1, upd lo 1 x, hi'), tm_rel rfl rfl (tm_un _ _ (by decide)) (tm_us _ _ _) e0 e1, fun post hp => nm_e (br_t h1 (br_f h2 (hX post hp))), fun post hp => nm_e (br_t h1 (br_f h2 (nm_e (hY post hp))))⟩
  · obtain ⟨c, d, hX, hY⟩ := tm_x48 x (s + x.toInt64) n x (lo 0) hi
    obtain ⟨hi', e0, e1, hY⟩ := hY (upd (upd lo 1 (lo 0)) 0 x)
    have e2 : upd (upd lo 1 (lo 0)) 0 x 1 = lo 0 := by rw [tm_un _ _ (by decide), tm_us]
    exact ⟨n + 1, (s + x.toInt64, n + 1, x, lo 0, c, d), (s + x.toInt64, n + 1, upd (upd lo 1 (lo 0)) 0 x, hi'), tm_rel rfl rfl (tm_us _ _ _) e2 e0 e1, fun post hp => nm_e (br_f h1 (hX post hp)), fun post hp => nm_e (br_f h1 (nm_e (nm_e (hY post hp))))⟩
end
section
theorem tm_0 : (0 : Int32).toNatClampNeg = 0 := by decide
theorem tm_1 : (1 : Int32).toNatClampNeg = 1 := by decide
theorem tm_2 : ((2 : Int32) - 2).toNatClampNeg = 0 := by decide
theorem tm_3 : ((3 : Int32) - 2).toNatClampNeg = 1 := by decide
theorem tm_in0 : vp_in (0 : Int32) 2 := vp_in_iff.mpr (by decide)
theorem tm_in1 : vp_in (1 : Int32) 2 := vp_in_iff.mpr (by decide)
theorem tm_in2 : vp_in ((2 : Int32) - 2) 2 := vp_in_iff.mpr (by decide)
theorem tm_in3 : vp_in ((3 : Int32) - 2) 2 := vp_in_iff.mpr (by decide)
/-- an int that is none of 0, 1, 2, 3 and not negative lies above 3 -/
theorem tm_above {x : Int32} (h0 : ¬ x = 0) (h1 : ¬ x = 1) (h2 : ¬ x = 2) (h3 : ¬ x = 3) (hn : ¬ x < 0) : ¬ x ≤ 3 := by
  intro h
  obtain ⟨j, hj, rfl⟩ := nI_of2 (M := 3) (n := 3) (by decide) hn h
  have hc : j = 0 ∨ j = 1 ∨ j = 2 ∨ j = 3 := by omega
  rcases hc with rfl | rfl | rfl | rfl
  · exact h0 (by decide +kernel)
  · exact h1 (by decide +kernel)
  · exact h2 (by decide +kernel)
  · exact h3 (by decide +kernel)
/-- the divisor is no zero -/
theorem tm_nz {n : Int32} (h : 5 ≤ n) : ¬ (n - 4).toInt64 = 0 := by
  intro e
  have e1 : (n - 4).toInt64.toInt = (0 : Int64).toInt := congrArg Int64.toInt e
  rw [Int32.toInt_toInt64] at e1
  have e2 : n - 4 = 0 := Int32.toInt_inj.mp (e1.trans (by decide))
  have e3 : n = 0 + 4 := Int32.sub_eq_iff_eq_add.mp e2
  rw [e3] at h
  exact absurd h (by decide)
theorem i_vc_add {k : Nat} {u : SX} {v : SY} (I : i_Rel k u v) (hk : k + 2 ≤ 1024) (v1 : Int32) : wpX_add (fun r u' => wpY_add (fun r' v' => r' = r ∧ i_Rel (k + 2) u' v') v v1) u v1 := by
  obtain ⟨s, n, lo, hi⟩ := v
  have e : u = (s, n, lo 0, lo 1, hi 0, hi 1) := I
  subst e
  obtain ⟨r, u', v', hR, hX, hY⟩ := tm_add (k + 2) v1 s n lo hi
  exact hX _ (hY _ ⟨rfl, hR⟩)
theorem i_vc_extreme {k : Nat} {u : SX} {v : SY} (I : i_Rel k u v) (hk : k + 2 ≤ 1024) (v1 : Int32) : wpX_extreme (fun r => wpY_extreme (fun r' => r' = r ∧ i_Rel (k + 2) u v) v v1) u v1 := by
  obtain ⟨s, n, lo, hi⟩ := v
  have e : u = (s, n, lo 0, lo 1, hi 0, hi 1) := I
  subst e
  unfold wpX_extreme wpY_extreme
  dsimp only
  by_cases h0 : v1 = 0
  · subst h0
    exact br_t rfl (br_f (by decide) (br_t (by decide) (br_f (by decide) ⟨tm_in0, congrArg lo tm_0, I⟩)))
  refine br_f h0 ?_
  by_cases h1 : v1 = 1
  · subst h1
    exact br_t rfl (br_f (by decide) (br_t (by decide) (br_f (by decide) ⟨tm_in1, congrArg lo tm_1, I⟩)))
  refine br_f h1 ?_
  by_cases h2 : v1 = 2
  · subst h2
    exact br_t rfl (br_f (by decide) (br_t (by decide) (br_t (by decide) ⟨tm_in2, congrArg hi tm_2, I⟩)))
  refine br_f h2 ?_
  by_cases h3 : v1 = 3
  · subst h3
    exact br_t rfl (br_f (by decide) (br_t (by decide) (br_t (by decide) ⟨tm_in3, congrArg hi tm_3, I⟩)))
  refine br_f h3 ?_
  by_cases hn : v1 < 0
  · exact br_t hn ⟨rfl, I⟩
  · exact br_f hn (br_f (tm_above h0 h1 h2 h3 hn) ⟨rfl, I⟩)
theorem i_vc_trimmedSum {k : Nat} {u : SX} {v : SY} (I : i_Rel k u v) (hk : k + 2 ≤ 1024) : wpX_trimmedSum (fun r => wpY_trimmedSum (fun r' => r' = r ∧ i_Rel (k + 2) u v) v) u := by
  obtain ⟨s, n, lo, hi⟩ := v
  have e : u = (s, n, lo 0, lo 1, hi 0, hi 1) := I
  subst e
  unfold wpX_trimmedSum wpY_trimmedSum
  dsimp only
  by_cases h : 4 ≤ n
  · exact br_t h (br_t h ⟨rfl, I⟩)
  · exact br_f h (br_f h ⟨rfl, I⟩)
theorem i_vc_trimmedMean {k : Nat} {u : SX} {v : SY} (I : i_Rel k u v) (hk : k + 2 ≤ 1024) : wpX_trimmedMean (fun r => wpY_trimmedMean (fun r' => r' = r ∧ i_Rel (k + 2) u v) v) u := by
  obtain ⟨s, n, lo, hi⟩ := v
  have e : u = (s, n, lo 0, lo 1, hi 0, hi 1) := I
  subst e
  unfold wpX_trimmedMean wpY_trimmedMean
  dsimp only
  by_cases h : 5 ≤ n
  · have h4 : 4 ≤ n := Int32.le_trans (by decide) h
    unfold wpX_trimmedSum wpY_trimmedSum
    dsimp only
    exact br_t h (br_t h4 ⟨tm_nz h, br_t h (br_t h4 ⟨tm_nz h, rfl, I⟩)⟩)
  · exact br_f h (br_f h ⟨rfl, I⟩)
end
