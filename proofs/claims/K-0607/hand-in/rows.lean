section
/-- both objects hold the same two vectors -/
def i_Rel (_ : Nat) (u : SX) (v : SY) : Prop := u = v
theorem i_up {k : Nat} {u : SX} {v : SY} (h : i_Rel k u v) : i_Rel (k + 4) u v := h
theorem i_vc0 : wpX_init (fun u => wpY_init (fun v => i_Rel 0 u v)) := rfl
theorem fv_3 : nI 3 = 3 := by decide +kernel
/-- an index that passed both checks is within three cells -/
theorem fv_in {x : Int32} (h0 : ¬ x < 0) (h2 : x ≤ 2) : vp_in x 3 := by
  obtain ⟨j, hj, rfl⟩ := nI_of2 (M := 2) (n := 2) (by decide) h0 h2
  exact vp_in_nI (by omega) (by decide)
/-- set behind its first check: one outcome for both sides -/
theorem fv_set (x1 x2 x3 : Int32) (a b : Nat → Int32) : ∃ (r : Int32) (s : (Nat → Int32) × (Nat → Int32)), (∀ post : Int32 → SX → Prop, post r s → wX_set_11 post x1 x2 x3 a b) ∧ (∀ post : Int32 → SY → Prop, post r s → wY_set_11 post x1 x2 x3 a b) := by
  by_cases h0 : x2 < 0
  · exact ⟨-2, (a, b), fun _ hp => br_t h0 hp, fun _ hp => br_t h0 hp⟩
  by_cases h2 : x2 ≤ 2
  · have hi : vp_in x2 3 := fv_in h0 h2
    by_cases h3 : x3 < -1073741824
    · exact ⟨-3, (a, b), fun _ hp => br_f h0 (br_t h2 (br_t h3 hp)), fun _ hp => br_f h0 (br_t h2 (br_t h3 hp))⟩
    by_cases h4 : x3 ≤ 1073741824
    · by_cases z : x1 = 0
      · exact ⟨0, (upd a x2.toNatClampNeg x3, b), fun _ hp => br_f h0 (br_t h2 (br_f h3 (br_t h4 (br_t z ⟨hi, nm_e hp⟩)))), fun _ hp => br_f h0 (br_t h2 (br_f h3 (br_t h4 (br_t z ⟨hi, nm_e hp⟩))))⟩
      · exact ⟨0, (a, upd b x2.toNatClampNeg x3), fun _ hp => br_f h0 (br_t h2 (br_f h3 (br_t h4 (br_f z ⟨hi, nm_e hp⟩)))), fun _ hp => br_f h0 (br_t h2 (br_f h3 (br_t h4 (br_f z ⟨hi, nm_e hp⟩))))⟩
    · exact ⟨-3, (a, b), fun _ hp => br_f h0 (br_t h2 (br_f h3 (br_f h4 hp))), fun _ hp => br_f h0 (br_t h2 (br_f h3 (br_f h4 hp)))⟩
  · exact ⟨-2, (a, b), fun _ hp => br_f h0 (br_f h2 hp), fun _ hp => br_f h0 (br_f h2 hp)⟩
theorem i_vc_set {k : Nat} {u : SX} {v : SY} (I : i_Rel k u v) (hk : k + 4 ≤ 2048) (v1 : Int32) (v2 : Int32) (v3 : Int32) : wpX_set (fun r u' => wpY_set (fun r' v' => r' = r ∧ i_Rel (k + 4) u' v') v v1 v2 v3) u v1 v2 v3 := by
  cases I
  rcases u with ⟨a, b⟩
  obtain ⟨r, s, hX, hY⟩ := fv_set v1 v2 v3 a b
  by_cases h0 : v1 = 0
  · exact br_t h0 (hX _ (br_t h0 (hY _ ⟨rfl, rfl⟩)))
  by_cases h1 : v1 = 1
  · exact br_f h0 (br_t h1 (hX _ (br_f h0 (br_t h1 (hY _ ⟨rfl, rfl⟩)))))
  · exact br_f h0 (br_f h1 (br_f h0 (br_f h1 ⟨rfl, rfl⟩)))
/-- get behind its first check -/
theorem fv_get (x1 x2 : Int32) (a b : Nat → Int32) : ∃ r : Int32, (∀ post : Int32 → Prop, post r → wX_get_11 post x1 x2 a b) ∧ (∀ post : Int32 → Prop, post r → wY_get_9 post x1 x2 a b) := by
  by_cases h0 : x2 < 0
  · exact ⟨0, fun _ hp => br_t h0 hp, fun _ hp => br_t h0 hp⟩
  by_cases h2 : x2 ≤ 2
  · have hi : vp_in x2 3 := fv_in h0 h2
    by_cases z : x1 = 0
    · exact ⟨a x2.toNatClampNeg, fun _ hp => br_f h0 (br_t h2 (br_t z ⟨hi, hp⟩)), fun _ hp => br_f h0 (br_t h2 (br_t z ⟨hi, hp⟩))⟩
    · exact ⟨b x2.toNatClampNeg, fun _ hp => br_f h0 (br_t h2 (br_f z ⟨hi, hp⟩)), fun _ hp => br_f h0 (br_t h2 (br_f z ⟨hi, hp⟩))⟩
  · exact ⟨0, fun _ hp => br_f h0 (br_f h2 hp), fun _ hp => br_f h0 (br_f h2 hp)⟩
theorem i_vc_get {k : Nat} {u : SX} {v : SY} (I : i_Rel k u v) (hk : k + 4 ≤ 2048) (v1 : Int32) (v2 : Int32) : wpX_get (fun r => wpY_get (fun r' => r' = r ∧ i_Rel (k + 4) u v) v v1 v2) u v1 v2 := by
  cases I
  rcases u with ⟨a, b⟩
  obtain ⟨r, hX, hY⟩ := fv_get v1 v2 a b
  by_cases h0 : v1 = 0
  · exact br_t h0 (hX _ (br_t h0 (hY _ ⟨rfl, rfl⟩)))
  by_cases h1 : v1 = 1
  · exact br_f h0 (br_t h1 (hX _ (br_f h0 (br_t h1 (hY _ ⟨rfl, rfl⟩)))))
  · exact br_f h0 (br_f h1 (br_f h0 (br_f h1 ⟨rfl, rfl⟩)))
/-- dot's clip of the shifted sum -/
theorem fv_clip (q : Int64) : ∃ r : Int32, ∀ post : Int32 → Prop, post r → ((q ≤ 2147483647 → (((-2147483648) ≤ q → post q.toInt32) ∧ (¬ (-2147483648) ≤ q → post (-2147483648)))) ∧ (¬ q ≤ 2147483647 → post 2147483647)) := by
  by_cases h1 : q ≤ 2147483647
  · by_cases h2 : (-2147483648) ≤ q
    · exact ⟨q.toInt32, fun _ hp => br_t h1 (br_t h2 hp)⟩
    · exact ⟨-2147483648, fun _ hp => br_t h1 (br_f h2 hp)⟩
  · exact ⟨2147483647, fun _ hp => br_f h1 hp⟩
theorem i_vc_dot {k : Nat} {u : SX} {v : SY} (I : i_Rel k u v) (hk : k + 4 ≤ 2048) : wpX_dot (fun r => wpY_dot (fun r' => r' = r ∧ i_Rel (k + 4) u v) v) u := by
  cases I
  rcases u with ⟨a, b⟩
  intro x ex q eq
  obtain ⟨r, h⟩ := fv_clip q
  refine h (fun r => wpY_dot (fun r' => r' = r ∧ i_Rel (k + 4) (a, b) (a, b)) (a, b)) ?_
  intro x' ex' q' eq'
  have e : q' = q := by rw [eq', eq, ex', ex]
  rw [e]
  exact h (fun r' => r' = r ∧ i_Rel (k + 4) (a, b) (a, b)) ⟨rfl, rfl⟩
/-- the loop of lerpInto in lockstep: one outcome for both sides -/
theorem fv_loop (c : Int32) (b : Nat → Int32) : ∀ (d j : Nat) (a : Nat → Int32), j + d = 3 → ∃ (r : Int32) (a' : Nat → Int32), (∀ post : Int32 → SX → Prop, post r (a', b) → wX_lerpInto_23 post c.toInt64 (d + 1) (nI j) a b) ∧ (∀ post : Int32 → SY → Prop, post r (a', b) → wY_lerpInto_17 post c (d + 1) (nI j) a b) := by
  intro d
  induction d with
  | zero =>
    intro j a hj
    have h : (3 : Int32) ≤ nI j := by rw [← fv_3]; exact nI_le (by omega) (by omega)
    exact ⟨a 0, a, fun _ hp => br_t h hp, fun _ hp => br_t h hp⟩
  | succ d ih =>
    intro j a hj
    have h : ¬ (3 : Int32) ≤ nI j := by rw [← fv_3]; exact nI_ge (by omega) (by omega)
    have hi : vp_in (nI j) 3 := vp_in_nI (by omega) (by omega)
    obtain ⟨r, a', hX, hY⟩ := ih (j + 1) (upd a (nI j).toNatClampNeg ((a (nI j).toNatClampNeg).toInt64 + ((((b (nI j).toNatClampNeg).toInt64 - (a (nI j).toNatClampNeg).toInt64) * c.toInt64) >>> ((16 : Int32).toInt64 &&& 63))).toInt32) (by omega)
    refine ⟨r, a', fun post hp => br_f h ⟨hi, hi, fun x6 e6 x8 e8 => ⟨hi, fun x10 e10 => ⟨hi, fun a1 ea x5 e5 => ?_⟩⟩⟩, fun post hp => br_f h ⟨hi, hi, hi, hi, fun a1 ea x2 e2 => ?_⟩⟩
    · rw [e5, ea, e10, e8, e6, nI_1 j]; exact hX post hp
    · rw [e2, ea, nI_1 j]; exact hY post hp
/-- lerpInto behind its first clip -/
theorem fv_lerp (c : Int32) (a b : Nat → Int32) : ∃ (r : Int32) (s : (Nat → Int32) × (Nat → Int32)), (∀ post : Int32 → SX → Prop, post r s → wX_lerpInto_8 post c a b) ∧ (∀ post : Int32 → SY → Prop, post r s → wY_lerpInto_6 post c a b) := by
  by_cases h : c ≤ 65536
  · obtain ⟨r, a', hX, hY⟩ := fv_loop c b 3 0 a rfl
    rw [nI_0] at hX hY
    exact ⟨r, (a', b), fun post hp => br_t h ⟨_, hX post hp⟩, fun post hp => br_t h ⟨_, hY post hp⟩⟩
  · obtain ⟨r, a', hX, hY⟩ := fv_loop 65536 b 3 0 a rfl
    rw [nI_0] at hX hY
    exact ⟨r, (a', b), fun post hp => br_f h (nm_e ⟨_, hX post hp⟩), fun post hp => br_f h ⟨_, hY post hp⟩⟩
theorem i_vc_lerpInto {k : Nat} {u : SX} {v : SY} (I : i_Rel k u v) (hk : k + 4 ≤ 2048) (v1 : Int32) : wpX_lerpInto (fun r u' => wpY_lerpInto (fun r' v' => r' = r ∧ i_Rel (k + 4) u' v') v v1) u v1 := by
  cases I
  rcases u with ⟨a, b⟩
  by_cases h : 0 ≤ v1
  · obtain ⟨r, s, hX, hY⟩ := fv_lerp v1 a b
    exact br_t h (hX _ (br_t h (hY _ ⟨rfl, rfl⟩)))
  · obtain ⟨r, s, hX, hY⟩ := fv_lerp 0 a b
    exact br_f h (hX _ (br_f h (hY _ ⟨rfl, rfl⟩)))
end
