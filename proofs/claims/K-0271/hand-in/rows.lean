section
/-- the long product of two ints that are not negative is the product -/
theorem pd_mul {x y : Int32} (hx : 0 ≤ x.toInt) (hy : 0 ≤ y.toInt) :
    (x.toInt64 * y.toInt64).toInt = x.toInt * y.toInt ∧ 0 ≤ x.toInt * y.toInt ∧ x.toInt * y.toInt ≤ 4611686014132420609 := by
  have a := x.toInt_lt
  have b := y.toInt_lt
  have h0 : 0 ≤ x.toInt * y.toInt := Int.mul_nonneg hx hy
  have h1 : x.toInt * y.toInt ≤ 2147483647 * 2147483647 :=
    Int.mul_le_mul (by omega) (by omega) hy (by decide)
  have e : x.toInt64.toInt * y.toInt64.toInt = x.toInt * y.toInt := by
    rw [Int32.toInt_toInt64, Int32.toInt_toInt64]
  refine ⟨?_, h0, by omega⟩
  rw [Jvm.Kit.i64_mul (by rw [e]; omega) (by rw [e]; omega), e]
/-- value + digit * weight, as a long, is not negative -/
theorem pd_sum {a d w : Int32} (ha : 0 ≤ a.toInt) (hd : 0 ≤ d.toInt) (hw : 0 ≤ w.toInt) :
    0 ≤ (a.toInt64 + d.toInt64 * w.toInt64).toInt := by
  obtain ⟨e, h0, h1⟩ := pd_mul hd hw
  have b := a.toInt_lt
  have ea : a.toInt64.toInt = a.toInt := Int32.toInt_toInt64 a
  rw [Jvm.Kit.i64_add (by rw [ea, e]; omega) (by rw [ea, e]; omega), ea, e]
  omega
theorem pd_max : (2147483647 : Int64).toInt = 2147483647 := by decide
/-- a long from 0 to 2147483647 is its own int, widened again -/
theorem pd_back {x : Int64} (h0 : 0 ≤ x.toInt) (h : x ≤ 2147483647) :
    x.toInt32.toInt64 = x ∧ 0 ≤ x.toInt32.toInt := by
  have h1 : x.toInt ≤ 2147483647 := by
    have z := Int64.le_iff_toInt_le.mp h
    rwa [pd_max] at z
  have e : x.toInt32.toInt = x.toInt := Jvm.Kit.i32_of_i64 (by omega) (by omega)
  exact ⟨Int64.toInt_inj.mp (by rw [Int32.toInt_toInt64, e]), by omega⟩
theorem pd_0 : (0 : Int32).toInt = 0 := by decide
theorem pd_1 : (1 : Int32).toInt = 1 := by decide
theorem pd_26 : (26 : Int32).toInt = 26 := by decide
theorem pd_36 : (36 : Int32).toInt = 36 := by decide
theorem pd_48 : (48 : Int32).toInt = 48 := by decide
theorem pd_97 : (97 : Int32).toInt = 97 := by decide
theorem pd_255 : (255 : Int32).toInt = 255 := by decide
theorem pd_57 : (57 : Int32).toInt = 57 := by decide
theorem pd_z : (0 : Int32).toInt64 = 0 := by decide
theorem pd_o : (1 : Int32).toInt64 = 1 := by decide
/-- 36 - t for a threshold t from 0 to 36 is not negative -/
theorem pd_fac {t : Int32} (h0 : 0 ≤ t.toInt) (h1 : t.toInt ≤ 36) : 0 ≤ (36 - t).toInt := by
  rw [Jvm.Kit.i32_sub (by rw [pd_36]; omega) (by rw [pd_36]; omega), pd_36]
  omega
/-- the threshold between the two borders -/
theorem pd_thr {k b : Int32} (h0 : 0 ≤ b.toInt) (h1 : b.toInt ≤ 255) (h2 : b < k) (h3 : k < b + 26) :
    0 ≤ (k - b).toInt ∧ (k - b).toInt ≤ 36 := by
  have e : (b + 26).toInt = b.toInt + 26 := by
    rw [Jvm.Kit.i32_add (by rw [pd_26]; omega) (by rw [pd_26]; omega), pd_26]
  have a2 := Int32.lt_iff_toInt_lt.mp h2
  have a3 := Int32.lt_iff_toInt_lt.mp h3
  rw [e] at a3
  rw [Jvm.Kit.i32_sub (by omega) (by omega)]
  omega
/-- a letter's digit -/
theorem pd_let {p : Int32} (h : ¬ p < 97) : 0 ≤ (p - 97).toInt := by
  have a : ¬ p.toInt < 97 := fun z => h (Int32.lt_iff_toInt_lt.mpr (by rw [pd_97]; exact z))
  have b := p.toInt_lt
  rw [Jvm.Kit.i32_sub (by rw [pd_97]; omega) (by rw [pd_97]; omega), pd_97]
  omega
/-- a figure's digit -/
theorem pd_fig {p : Int32} (h : ¬ p < 48) (h' : ¬ 57 < p) : 0 ≤ (p - 48 + 26).toInt := by
  have a : ¬ p.toInt < 48 := fun z => h (Int32.lt_iff_toInt_lt.mpr (by rw [pd_48]; exact z))
  have b : ¬ 57 < p.toInt := fun z => h' (Int32.lt_iff_toInt_lt.mpr (by rw [pd_57]; exact z))
  have e : (p - 48).toInt = p.toInt - 48 := by
    rw [Jvm.Kit.i32_sub (by rw [pd_48]; omega) (by rw [pd_48]; omega), pd_48]
  rw [Jvm.Kit.i32_add (by rw [pd_26, e]; omega) (by rw [pd_26, e]; omega), pd_26, e]
  omega
theorem pd_le0 {p : Int32} (h : 0 ≤ p) : 0 ≤ p.toInt := by
  have z := Int32.le_iff_toInt_le.mp h
  rwa [pd_0] at z
theorem pd_ge0 {p : Int32} (h : 0 ≤ p.toInt) : 0 ≤ p := Int32.le_iff_toInt_le.mpr (by rw [pd_0]; exact h)
theorem pd_le255 {p : Int32} (h : p ≤ 255) : p.toInt ≤ 255 := by
  have z := Int32.le_iff_toInt_le.mp h
  rwa [pd_255] at z
end
section
/-- the same value, k, bias and state; the same weight while the state is 0 -/
def i_Rel (_ : Nat) (u : SX) (v : SY) : Prop :=
  ∃ (a w k b s : Int32) (w' : Int64), u = (a, w, k, b, s) ∧ v = (a.toInt64, w', k, b, s) ∧
    0 ≤ a.toInt ∧ 0 ≤ b.toInt ∧ b.toInt ≤ 255 ∧ (s = 0 → w' = w.toInt64 ∧ 0 ≤ w.toInt)
theorem i_up {k : Nat} {u : SX} {v : SY} (h : i_Rel k u v) : i_Rel (k + 2) u v := h
theorem pd_new {n : Nat} {b : Int32} (h0 : 0 ≤ b.toInt) (h1 : b.toInt ≤ 255) : i_Rel n (0, 1, 36, b, 0) (0, 1, 36, b, 0) :=
  ⟨0, 1, 36, b, 0, 1, rfl, by rw [pd_z], by rw [pd_0]; decide, h0, h1, fun _ => ⟨pd_o.symm, by rw [pd_1]; decide⟩⟩
/-- restart, from any two states -/
theorem pd_restart (p : Int32) : ∃ b : Int32, (0 ≤ b.toInt ∧ b.toInt ≤ 255) ∧
    (∀ (post : Int32 → SX → Prop) (a w k c s : Int32), post b (0, 1, 36, b, 0) → wpX_restart post (a, w, k, c, s) p) ∧
    (∀ (post : Int32 → SY → Prop) (a w : Int64) (k c s : Int32), post b (0, 1, 36, b, 0) → wpY_restart post (a, w, k, c, s) p) := by
  by_cases h0 : 0 ≤ p
  · by_cases h1 : p ≤ 255
    · exact ⟨p, ⟨pd_le0 h0, pd_le255 h1⟩, fun post a w k c s hp => br_t h0 (br_t h1 hp), fun post a w k c s hp => br_t h0 (br_t h1 hp)⟩
    · exact ⟨255, ⟨by rw [pd_255]; decide, by rw [pd_255]; decide⟩, fun post a w k c s hp => br_t h0 (br_f h1 hp), fun post a w k c s hp => br_t h0 (br_f h1 hp)⟩
  · have hz : (0 : Int32) ≤ 255 := by decide
    exact ⟨0, ⟨by rw [pd_0]; decide, by rw [pd_0]; decide⟩, fun post a w k c s hp => br_f h0 (br_t hz hp), fun post a w k c s hp => br_f h0 hp⟩
theorem i_vc0 (k0 : Int32) : wpX_init (fun u => wpY_init (fun v => i_Rel 1 u v) k0) k0 := by
  obtain ⟨b, ⟨h0, h1⟩, hX, hY⟩ := pd_restart k0
  unfold wpX_init wpY_init
  refine hX _ 0 0 0 0 0 ?_
  dsimp only
  refine hY _ 0 0 0 0 0 ?_
  dsimp only
  exact pd_new h0 h1
theorem i_vc_restart {k : Nat} {u : SX} {v : SY} (I : i_Rel k u v) (hk : k + 2 ≤ 1025) (v1 : Int32) : wpX_restart (fun r u' => wpY_restart (fun r' v' => r' = r ∧ i_Rel (k + 2) u' v') v v1) u v1 := by
  obtain ⟨a, w, q, c, s, w', rfl, rfl, -⟩ := I
  obtain ⟨b, ⟨h0, h1⟩, hX, hY⟩ := pd_restart v1
  exact hX _ a w q c s (hY _ a.toInt64 w' q c s ⟨rfl, pd_new h0 h1⟩)
/-- the walk behind the threshold: one outcome for both sides -/
theorem pd_tail (n : Nat) {d t a w k b : Int32} (ha : 0 ≤ a.toInt) (hb : 0 ≤ b.toInt) (hb' : b.toInt ≤ 255) (hw : 0 ≤ w.toInt)
    (ht : 0 ≤ t.toInt ∧ t.toInt ≤ 36) : ∃ (r : Int32) (u' : SX) (v' : SY), i_Rel n u' v' ∧
      (∀ post : Int32 → SX → Prop, post r u' → wX_digit_146 post d t a w k b 0) ∧
      (∀ post : Int32 → SY → Prop, post r v' → wY_digit_139 post d t a.toInt64 w.toInt64 k b 0) := by
  by_cases h : t ≤ d
  · obtain ⟨e, e0, _⟩ := pd_mul hw (pd_fac ht.1 ht.2)
    by_cases h2 : w.toInt64 * (36 - t).toInt64 ≤ 2147483647
    · obtain ⟨g, g0⟩ := pd_back (by rw [e]; exact e0) h2
      exact ⟨0, (a, (w.toInt64 * (36 - t).toInt64).toInt32, k + 36, b, 0), (a.toInt64, w.toInt64 * (36 - t).toInt64, k + 36, b, 0),
        ⟨_, _, _, _, _, _, rfl, rfl, ha, hb, hb', fun _ => ⟨g.symm, g0⟩⟩,
        fun post hp => br_t h (nm_e (br_t h2 (nm_e hp))), fun post hp => br_t h (nm_e (br_t h2 (nm_e hp)))⟩
    · exact ⟨-2, (0, w, k, b, 2), (0, w.toInt64 * (36 - t).toInt64, k, b, 2),
        ⟨0, _, _, _, _, _, rfl, by rw [pd_z], by rw [pd_0]; decide, hb, hb', fun z => absurd z (by decide)⟩,
        fun post hp => br_t h (nm_e (br_f h2 hp)), fun post hp => br_t h (nm_e (br_f h2 hp))⟩
  · exact ⟨1, (a, w, k, b, 1), (a.toInt64, w.toInt64, k, b, 1),
      ⟨_, _, _, _, _, _, rfl, rfl, ha, hb, hb', fun z => absurd z (by decide)⟩,
      fun post hp => br_f h hp, fun post hp => br_f h hp⟩
/-- the walk behind the digit: one outcome for both sides -/
theorem pd_mid (n : Nat) {d a w k b s : Int32} {w' : Int64} (hd : 0 ≤ d.toInt) (ha : 0 ≤ a.toInt) (hb : 0 ≤ b.toInt) (hb' : b.toInt ≤ 255)
    (hw : s = 0 → w' = w.toInt64 ∧ 0 ≤ w.toInt) : ∃ (r : Int32) (u' : SX) (v' : SY), i_Rel n u' v' ∧
      (∀ post : Int32 → SX → Prop, post r u' → wX_digit_45 post d a w k b s) ∧
      (∀ post : Int32 → SY → Prop, post r v' → wY_digit_42 post d a.toInt64 w' k b s) := by
  have h0 : 0 ≤ d := pd_ge0 hd
  by_cases hs : s = 0
  · subst hs
    obtain ⟨rfl, hq⟩ := hw rfl
    by_cases h1 : a.toInt64 + d.toInt64 * w.toInt64 ≤ 2147483647
    · obtain ⟨g, g0⟩ := pd_back (pd_sum ha hd hq) h1
      by_cases h2 : b < k
      · by_cases h3 : k < b + 26
        · obtain ⟨r, u', v', R, hX, hY⟩ := pd_tail n (d := d) (k := k) g0 hb hb' hq (pd_thr hb hb' h2 h3)
          rw [g] at hY
          exact ⟨r, u', v', R, fun post hp => br_t rfl (nm_e (br_t h1 (br_t h2 (br_t h3 (nm_e (hX post hp)))))),
            fun post hp => br_t h0 (br_t rfl (nm_e (br_t h1 (br_t h2 (br_t h3 (hY post hp))))))⟩
        · obtain ⟨r, u', v', R, hX, hY⟩ := pd_tail n (d := d) (t := 26) (k := k) g0 hb hb' hq (by rw [pd_26]; decide)
          rw [g] at hY
          exact ⟨r, u', v', R, fun post hp => br_t rfl (nm_e (br_t h1 (br_t h2 (br_f h3 (hX post hp))))),
            fun post hp => br_t h0 (br_t rfl (nm_e (br_t h1 (br_t h2 (br_f h3 (hY post hp))))))⟩
      · obtain ⟨r, u', v', R, hX, hY⟩ := pd_tail n (d := d) (t := 1) (k := k) g0 hb hb' hq (by rw [pd_1]; decide)
        rw [g] at hY
        exact ⟨r, u', v', R, fun post hp => br_t rfl (nm_e (br_t h1 (br_f h2 (hX post hp)))),
          fun post hp => br_t h0 (br_t rfl (nm_e (br_t h1 (br_f h2 (hY post hp)))))⟩
    · exact ⟨-2, (0, w, k, b, 2), (0, w.toInt64, k, b, 2),
        ⟨0, _, _, _, _, _, rfl, by rw [pd_z], by rw [pd_0]; decide, hb, hb', fun z => absurd z (by decide)⟩,
        fun post hp => br_t rfl (nm_e (br_f h1 hp)), fun post hp => br_t h0 (br_t rfl (nm_e (br_f h1 hp)))⟩
  · exact ⟨-3, (a, w, k, b, s), (a.toInt64, w', k, b, s), ⟨_, _, _, _, _, _, rfl, rfl, ha, hb, hb', hw⟩,
      fun post hp => br_f hs hp, fun post hp => br_t h0 (br_f hs hp)⟩
/-- digit: one outcome for both sides -/
theorem pd_digit (n : Nat) (p : Int32) {a w k b s : Int32} {w' : Int64} (ha : 0 ≤ a.toInt) (hb : 0 ≤ b.toInt) (hb' : b.toInt ≤ 255)
    (hw : s = 0 → w' = w.toInt64 ∧ 0 ≤ w.toInt) : ∃ (r : Int32) (u' : SX) (v' : SY), i_Rel n u' v' ∧
      (∀ post : Int32 → SX → Prop, post r u' → wpX_digit post (a, w, k, b, s) p) ∧
      (∀ post : Int32 → SY → Prop, post r v' → wpY_digit post (a.toInt64, w', k, b, s) p) := by
  have hm : ¬ (0 : Int32) ≤ -1 := by decide
  have hF : ∃ (r : Int32) (u' : SX) (v' : SY), i_Rel n u' v' ∧
      (∀ post : Int32 → SX → Prop, post r u' → wX_digit_20 post p a w k b s) ∧
      (∀ post : Int32 → SY → Prop, post r v' → wY_digit_19 post p a.toInt64 w' k b s) := by
    have R : i_Rel n (a, w, k, b, s) (a.toInt64, w', k, b, s) := ⟨_, _, _, _, _, _, rfl, rfl, ha, hb, hb', hw⟩
    have hB : ∀ post : Int32 → SY → Prop, post (-1) (a.toInt64, w', k, b, s) → wY_digit_41 post a.toInt64 w' k b s :=
      fun post hp => br_f hm hp
    by_cases h1 : p < 48
    · exact ⟨-1, _, _, R, fun post hp => br_t h1 hp, fun post hp => br_t h1 (hB post hp)⟩
    · by_cases h2 : 57 < p
      · exact ⟨-1, _, _, R, fun post hp => br_f h1 (br_t h2 hp), fun post hp => br_f h1 (br_t h2 (hB post hp))⟩
      · obtain ⟨r, u', v', R, hX, hY⟩ := pd_mid n (k := k) (pd_fig h1 h2) ha hb hb' hw
        exact ⟨r, u', v', R, fun post hp => br_f h1 (br_f h2 (nm_e (hX post hp))), fun post hp => br_f h1 (br_f h2 (hY post hp))⟩
  by_cases h1 : p < 97
  · obtain ⟨r, u', v', R, hX, hY⟩ := hF
    exact ⟨r, u', v', R, fun post hp => br_t h1 (hX post hp), fun post hp => br_t h1 (hY post hp)⟩
  · by_cases h2 : 122 < p
    · obtain ⟨r, u', v', R, hX, hY⟩ := hF
      exact ⟨r, u', v', R, fun post hp => br_f h1 (br_t h2 (hX post hp)), fun post hp => br_f h1 (br_t h2 (hY post hp))⟩
    · obtain ⟨r, u', v', R, hX, hY⟩ := pd_mid n (k := k) (pd_let h1) ha hb hb' hw
      exact ⟨r, u', v', R, fun post hp => br_f h1 (br_f h2 (nm_e (hX post hp))), fun post hp => br_f h1 (br_f h2 (hY post hp))⟩
theorem i_vc_digit {k : Nat} {u : SX} {v : SY} (I : i_Rel k u v) (hk : k + 2 ≤ 1025) (v1 : Int32) : wpX_digit (fun r u' => wpY_digit (fun r' v' => r' = r ∧ i_Rel (k + 2) u' v') v v1) u v1 := by
  obtain ⟨a, w, q, c, s, w', rfl, rfl, ha, hb, hb', hw⟩ := I
  obtain ⟨r, u', v', R, hX, hY⟩ := pd_digit (k + 2) v1 (k := q) ha hb hb' hw
  exact hX _ (hY _ ⟨rfl, R⟩)
theorem i_vc_value {k : Nat} {u : SX} {v : SY} (I : i_Rel k u v) (hk : k + 2 ≤ 1025) : wpX_value (fun r => wpY_value (fun r' => r' = r ∧ i_Rel (k + 2) u v) v) u := by
  have J : i_Rel (k + 2) u v := I
  obtain ⟨a, w, q, c, s, w', rfl, rfl, -⟩ := I
  exact ⟨Int32.toInt32_toInt64 a, J⟩
theorem i_vc_state {k : Nat} {u : SX} {v : SY} (I : i_Rel k u v) (hk : k + 2 ≤ 1025) : wpX_state (fun r => wpY_state (fun r' => r' = r ∧ i_Rel (k + 2) u v) v) u := by
  have J : i_Rel (k + 2) u v := I
  obtain ⟨a, w, q, c, s, w', rfl, rfl, -⟩ := I
  exact ⟨rfl, J⟩
end
