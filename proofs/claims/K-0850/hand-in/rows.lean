section
/-! Pure facts: bytes, the difference word, the masked byte (bp_b is a row of kit/rows, BITS) -/
theorem bp_b (x : Int32) : x.toInt8.toInt32 &&& 255 = x &&& 255 := by
  apply Int32.toBitVec_inj.mp
  rw [Int32.toBitVec_and, Int32.toBitVec_and, Int8.toBitVec_toInt32, Int32.toBitVec_toInt8]
  apply BitVec.eq_of_getLsbD_eq
  intro i hi
  rw [BitVec.getLsbD_and, BitVec.getLsbD_and]
  have hm : ∀ i < 32, 8 ≤ i → (255 : Int32).toBitVec.getLsbD i = false := by decide
  rcases Nat.lt_or_ge i 8 with z | z
  · rw [BitVec.getLsbD_signExtend, BitVec.getLsbD_signExtend, if_pos z, if_pos hi]
    simp only [z, hi, decide_true, Bool.true_and]
  · rw [hm i hi z]; simp
/-- every slot holds a byte -/
def tc_B (a : Nat → Int32) : Prop := ∀ j : Nat, (a j).toInt8.toInt32 = a j
theorem tc_B0 : tc_B (fun _ => 0) := by
  intro j
  show (0 : Int32).toInt8.toInt32 = 0
  decide
theorem tc_us {f : Nat → Int32} {k : Nat} {x : Int32} : upd f k x k = x := if_pos rfl
theorem tc_un {f : Nat → Int32} {k j : Nat} {x : Int32} (h : j ≠ k) : upd f k x j = f j := if_neg h
theorem tc_BU {a : Nat → Int32} (h : tc_B a) (k : Nat) (x : Int32) : tc_B (upd a k (vp_nar .byte x)) := by
  intro j
  by_cases e : j = k
  · subst e
    rw [tc_us, vp_nar_byte, Int8.toInt8_toInt32]
  · rw [tc_un e]
    exact h j
/-- two bytes differ in their low eight bits, or are the same -/
theorem tc_xor {x y : Int32} (hx : x.toInt8.toInt32 = x) (hy : y.toInt8.toInt32 = y) : ((x ^^^ y) &&& 255) = 0 ↔ x = y := by
  constructor
  · intro h
    have h1 : ((x ^^^ y) &&& 255).toInt8 = (0 : Int32).toInt8 := congrArg Int32.toInt8 h
    rw [Int32.toInt8_and, Int32.toInt8_xor, show (255 : Int32).toInt8 = -1 from by decide, Int8.and_neg_one, show (0 : Int32).toInt8 = 0 from by decide, Int8.xor_eq_zero_iff] at h1
    exact hx.symm.trans ((congrArg Int8.toInt32 h1).trans hy)
  · intro h
    rw [h, Int32.xor_self, Int32.zero_and]
theorem tc_or {x z : Int32} (hx : x.toBitVec.toNat < 2 ^ 8) : (x ||| (z &&& 255)).toBitVec.toNat < 2 ^ 8 := by
  rw [Int32.toBitVec_or, BitVec.toNat_or, Int32.toBitVec_and, BitVec.toNat_and]
  exact Nat.or_lt_two_pow hx (Nat.lt_of_le_of_lt Nat.and_le_right (by decide))
theorem tc_nat (x : Int32) : x = nI x.toBitVec.toNat := by
  apply Int32.toBitVec_inj.mp
  apply BitVec.eq_of_toNat_eq
  exact (Nat.mod_eq_of_lt x.toBitVec.isLt).symm
theorem tc_fin0 : ∀ d, d < 256 → ((nI d - 1).toUInt32 >>> ((31 : Int32).toUInt32 &&& Int32.toUInt32 31)).toInt32 = if nI d = 0 then 1 else 0 := by
  decide +kernel
/-- (d - 1) >>> 31 of a word below 256 is 1 at 0 alone -/
theorem tc_fin {x : Int32} (h : x.toBitVec.toNat < 2 ^ 8) : ((x - 1).toUInt32 >>> ((31 : Int32).toUInt32 &&& Int32.toUInt32 31)).toInt32 = if x = 0 then 1 else 0 := by
  have e := tc_fin0 _ h
  rw [← tc_nat x] at e
  exact e
/-- the mask -1 keeps the byte, the mask 0 clears it -/
theorem tc_v1 (x : Int32) : vp_nar .byte ((x &&& -(1 : Int32)).toInt8.toInt32) = vp_nar .byte x := by
  rw [Int32.and_neg_one, vp_nar_byte, vp_nar_byte, Int8.toInt8_toInt32]
theorem tc_v0 (x : Int32) : vp_nar .byte ((x &&& -(0 : Int32)).toInt8.toInt32) = vp_nar .byte 0 := by
  rw [show -(0 : Int32) = 0 from by decide, Int32.and_zero, vp_nar_byte, vp_nar_byte, Int8.toInt8_toInt32]
theorem tc_in {x : Int32} (h0 : ¬ x < 0) (h : x ≤ 15) : vp_in x 16 := by
  obtain ⟨j, hj, e⟩ := nI_of2 (M := 15) (n := 15) (by decide) h0 h
  subst e
  exact vp_in_nI (by omega) (by decide)
end
section
/-! The loops and the methods, each against what it answers -/
theorem tc_eX (post : Int32 → Prop) (e r o : Nat → Int32) (he : tc_B e) (hr : tc_B r) (h1 : (∀ j : Nat, j < 16 → e j = r j) → post 1) (h0 : ¬ (∀ j : Nat, j < 16 → e j = r j) → post 0) : ∀ (d i : Nat) (x : Int32), i + d = 16 → x.toBitVec.toNat < 2 ^ 8 → (x = 0 ↔ ∀ j : Nat, j < i → e j = r j) → wX_equal_4 post e r o (d + 1) x (nI i) := by
  intro d
  induction d with
  | zero =>
    intro i x hi hx hz
    have hi' : i = 16 := by omega
    subst hi'
    have h : (16 : Int32) ≤ nI 16 := by decide
    refine br_t h ?_
    rw [tc_fin hx]
    by_cases z : x = 0
    · rw [if_pos z]
      exact h1 (hz.mp z)
    · rw [if_neg z]
      exact h0 (fun k => z (hz.mpr k))
  | succ d ih =>
    intro i x hi hx hz
    have h : ¬ (16 : Int32) ≤ nI i := nI_ge (b := 16) (by omega) (by decide)
    have hn : vp_in (nI i) 16 := vp_in_nI (by omega) (by decide)
    refine br_f h ⟨hn, hn, fun y ey w ew => ?_⟩
    rw [nI_clamp (by omega)] at ey
    rw [nI_1] at ew
    subst ey ew
    refine ih (i + 1) _ (by omega) (tc_or hx) ?_
    rw [Int32.or_eq_zero_iff, hz, tc_xor (he i) (hr i)]
    exact ⟨fun ab => lt_s ab.1 ab.2, fun a => ⟨fun j hj => a j (by omega), a i (by omega)⟩⟩
theorem tc_eY (post : Int32 → Prop) (e r o : Nat → Int32) (h1 : (∀ j : Nat, j < 16 → e j = r j) → post 1) (h0 : ¬ (∀ j : Nat, j < 16 → e j = r j) → post 0) : ∀ (d i : Nat), i + d = 16 → (∀ j : Nat, j < i → e j = r j) → wY_equal_2 post e r o (d + 1) (nI i) := by
  intro d
  induction d with
  | zero =>
    intro i hi hz
    have hi' : i = 16 := by omega
    subst hi'
    have h : (16 : Int32) ≤ nI 16 := by decide
    exact br_t h (h1 hz)
  | succ d ih =>
    intro i hi hz
    have h : ¬ (16 : Int32) ≤ nI i := nI_ge (b := 16) (by omega) (by decide)
    have hn : vp_in (nI i) 16 := vp_in_nI (by omega) (by decide)
    have hc : (nI i).toNatClampNeg = i := nI_clamp (by omega)
    refine br_f h ⟨hn, hn, ?_⟩
    rw [hc]
    by_cases z : e i = r i
    · refine br_t z (fun y ey => ?_)
      rw [nI_1] at ey
      subst ey
      exact ih (i + 1) (by omega) (lt_s hz z)
    · exact br_f z (h0 (fun a => z (a i (by omega))))
theorem tc_wX (post : Int32 → Prop) (e r o : Nat → Int32) (he : tc_B e) (hr : tc_B r) (h1 : (∀ j : Nat, j < 16 → e j = r j) → post 1) (h0 : ¬ (∀ j : Nat, j < 16 → e j = r j) → post 0) : wpX_equal post (e, r, o) :=
  ⟨16 + 1, tc_eX post e r o he hr h1 h0 16 0 0 rfl (by decide) ⟨fun _ => lt_0, fun _ => rfl⟩⟩
theorem tc_wY (post : Int32 → Prop) (e r o : Nat → Int32) (h1 : (∀ j : Nat, j < 16 → e j = r j) → post 1) (h0 : ¬ (∀ j : Nat, j < 16 → e j = r j) → post 0) : wpY_equal post (e, r, o) :=
  ⟨16 + 1, tc_eY post e r o h1 h0 16 0 rfl lt_0⟩
/-- release with equal tags: both copy -/
theorem tc_r1 (e r : Nat → Int32) : ∀ (d i : Nat) (o : Nat → Int32), i + d = 16 → ∃ o' : Nat → Int32, (∀ post : Int32 → SX → Prop, post 1 (e, r, o') → wX_release_10 post 1 (-(1 : Int32)) (d + 1) (nI i) e r o) ∧ (∀ post : Int32 → SY → Prop, post 1 (e, r, o') → wY_release_7 post 1 (d + 1) (nI i) e r o) := by
  intro d
  induction d with
  | zero =>
    intro i o hi
    have hi' : i = 16 := by omega
    subst hi'
    have h : (16 : Int32) ≤ nI 16 := by decide
    exact ⟨o, fun _ hp => br_t h hp, fun _ hp => br_t h hp⟩
  | succ d ih =>
    intro i o hi
    have h : ¬ (16 : Int32) ≤ nI i := nI_ge (b := 16) (by omega) (by decide)
    have hn : vp_in (nI i) 16 := vp_in_nI (by omega) (by decide)
    have hc : (nI i).toNatClampNeg = i := nI_clamp (by omega)
    obtain ⟨o', hX, hY⟩ := ih (i + 1) (upd o i (vp_nar .byte (r i))) (by omega)
    refine ⟨o', fun post hp => br_f h ⟨hn, hn, fun a ea y ey => ?_⟩, fun post hp => br_f h (br_t rfl ⟨hn, hn, fun a ea y ey => ?_⟩)⟩
    · rw [hc, tc_v1] at ea
      rw [nI_1] at ey
      subst ea ey
      exact hX post hp
    · rw [hc] at ea
      rw [nI_1] at ey
      subst ea ey
      exact hY post hp
/-- release with unequal tags: both clear -/
theorem tc_r0 (e r : Nat → Int32) : ∀ (d i : Nat) (o : Nat → Int32), i + d = 16 → ∃ o' : Nat → Int32, (∀ post : Int32 → SX → Prop, post 0 (e, r, o') → wX_release_10 post 0 (-(0 : Int32)) (d + 1) (nI i) e r o) ∧ (∀ post : Int32 → SY → Prop, post 0 (e, r, o') → wY_release_7 post 0 (d + 1) (nI i) e r o) := by
  intro d
  induction d with
  | zero =>
    intro i o hi
    have hi' : i = 16 := by omega
    subst hi'
    have h : (16 : Int32) ≤ nI 16 := by decide
    exact ⟨o, fun _ hp => br_t h hp, fun _ hp => br_t h hp⟩
  | succ d ih =>
    intro i o hi
    have h : ¬ (16 : Int32) ≤ nI i := nI_ge (b := 16) (by omega) (by decide)
    have hn : vp_in (nI i) 16 := vp_in_nI (by omega) (by decide)
    have hc : (nI i).toNatClampNeg = i := nI_clamp (by omega)
    have h01 : ¬ (0 : Int32) = 1 := by decide
    obtain ⟨o', hX, hY⟩ := ih (i + 1) (upd o i (vp_nar .byte 0)) (by omega)
    refine ⟨o', fun post hp => br_f h ⟨hn, hn, fun a ea y ey => ?_⟩, fun post hp => br_f h (br_f h01 ⟨hn, fun a ea y ey => ?_⟩)⟩
    · rw [hc, tc_v0] at ea
      rw [nI_1] at ey
      subst ea ey
      exact hX post hp
    · rw [hc] at ea
      rw [nI_1] at ey
      subst ea ey
      exact hY post hp
/-- put behind its first refusal: one answer and one state for both -/
theorem tc_p (e r o : Nat → Int32) (he : tc_B e) (hr : tc_B r) (x1 x2 x3 : Int32) : ∃ (a : Int32) (e' r' : Nat → Int32), tc_B e' ∧ tc_B r' ∧ (∀ post : Int32 → SX → Prop, post a (e', r', o) → wX_put_11 post x1 x2 x3 e r o) ∧ (∀ post : Int32 → SY → Prop, post a (e', r', o) → wY_put_11 post x1 x2 x3 e r o) := by
  by_cases c0 : x2 < 0
  · exact ⟨-2, e, r, he, hr, fun _ h => br_t c0 h, fun _ h => br_t c0 h⟩
  · by_cases c1 : x2 ≤ 15
    · have hi : vp_in x2 16 := tc_in c0 c1
      by_cases c2 : x1 = 0
      · refine ⟨x3 &&& 255, upd e x2.toNatClampNeg (vp_nar .byte x3.toInt8.toInt32), r, tc_BU he _ _, hr, fun post h => br_f c0 (br_t c1 (br_t c2 ⟨hi, fun a ea => ?_⟩)), fun post h => br_f c0 (br_t c1 (br_t c2 (And.intro hi (fun a ea => ?_))))⟩
        · subst ea
          exact h
        · subst ea
          rw [bp_b]
          exact h
      · refine ⟨x3 &&& 255, e, upd r x2.toNatClampNeg (vp_nar .byte x3.toInt8.toInt32), he, tc_BU hr _ _, fun post h => br_f c0 (br_t c1 (br_f c2 ⟨hi, fun a ea => ?_⟩)), fun post h => br_f c0 (br_t c1 (br_f c2 (And.intro hi (fun a ea => ?_))))⟩
        · subst ea
          exact h
        · subst ea
          rw [bp_b]
          exact h
    · exact ⟨-2, e, r, he, hr, fun _ h => br_f c0 (br_f c1 h), fun _ h => br_f c0 (br_f c1 h)⟩
end
section
/-- the two objects hold the same three arrays, and the tag's and the received slots are bytes -/
def i_Rel (_ : Nat) (u : SX) (v : SY) : Prop := u = v ∧ tc_B u.1 ∧ tc_B u.2.1
theorem i_up {k : Nat} {u : SX} {v : SY} (h : i_Rel k u v) : i_Rel (k + 4) u v := h
theorem i_vc0 : wpX_init (fun u => wpY_init (fun v => i_Rel 0 u v)) := ⟨rfl, tc_B0, tc_B0⟩
theorem i_vc_put {k : Nat} {u : SX} {v : SY} (I : i_Rel k u v) (hk : k + 4 ≤ 2048) (v1 : Int32) (v2 : Int32) (v3 : Int32) : wpX_put (fun r u' => wpY_put (fun r' v' => r' = r ∧ i_Rel (k + 4) u' v') v v1 v2 v3) u v1 v2 v3 := by
  obtain ⟨e, r, o⟩ := u
  obtain ⟨rfl, he, hr⟩ := I
  obtain ⟨a, e', r', he', hr', hX, hY⟩ := tc_p e r o he hr v1 v2 v3
  by_cases c0 : v1 = 0
  · exact br_t c0 (hX _ (br_t c0 (hY _ ⟨rfl, rfl, he', hr'⟩)))
  · by_cases c1 : v1 = 1
    · exact br_f c0 (br_t c1 (hX _ (br_f c0 (br_t c1 (hY _ ⟨rfl, rfl, he', hr'⟩)))))
    · exact br_f c0 (br_f c1 (br_f c0 (br_f c1 ⟨rfl, rfl, he, hr⟩)))
theorem i_vc_equal {k : Nat} {u : SX} {v : SY} (I : i_Rel k u v) (hk : k + 4 ≤ 2048) : wpX_equal (fun r => wpY_equal (fun r' => r' = r ∧ i_Rel (k + 4) u v) v) u := by
  obtain ⟨e, r, o⟩ := u
  obtain ⟨rfl, he, hr⟩ := I
  refine tc_wX _ e r o he hr (fun z => ?_) (fun z => ?_)
  · exact tc_wY _ e r o (fun _ => ⟨rfl, rfl, he, hr⟩) (fun n => absurd z n)
  · exact tc_wY _ e r o (fun n => absurd n z) (fun _ => ⟨rfl, rfl, he, hr⟩)
theorem i_vc_release {k : Nat} {u : SX} {v : SY} (I : i_Rel k u v) (hk : k + 4 ≤ 2048) : wpX_release (fun r u' => wpY_release (fun r' v' => r' = r ∧ i_Rel (k + 4) u' v') v) u := by
  obtain ⟨e, r, o⟩ := u
  obtain ⟨rfl, he, hr⟩ := I
  unfold wpX_release wpY_release
  dsimp only
  refine tc_wX _ e r o he hr (fun z x ex => ?_) (fun z x ex => ?_)
  · obtain ⟨o', hX, hY⟩ := tc_r1 e r 16 0 o rfl
    subst ex
    refine ⟨16 + 1, hX _ ?_⟩
    exact tc_wY _ e r o (fun _ => ⟨16 + 1, hY _ ⟨rfl, rfl, he, hr⟩⟩) (fun n => absurd z n)
  · obtain ⟨o', hX, hY⟩ := tc_r0 e r 16 0 o rfl
    subst ex
    refine ⟨16 + 1, hX _ ?_⟩
    exact tc_wY _ e r o (fun n => absurd n z) (fun _ => ⟨16 + 1, hY _ ⟨rfl, rfl, he, hr⟩⟩)
theorem i_vc_out {k : Nat} {u : SX} {v : SY} (I : i_Rel k u v) (hk : k + 4 ≤ 2048) (v1 : Int32) : wpX_out (fun r => wpY_out (fun r' => r' = r ∧ i_Rel (k + 4) u v) v v1) u v1 := by
  obtain ⟨e, r, o⟩ := u
  obtain ⟨rfl, he, hr⟩ := I
  by_cases c0 : v1 < 0
  · exact br_t c0 (br_t c0 ⟨rfl, rfl, he, hr⟩)
  · by_cases c1 : v1 ≤ 15
    · have hi : vp_in v1 16 := tc_in c0 c1
      exact br_f c0 (br_t c1 ⟨hi, br_f c0 (br_t c1 ⟨hi, rfl, rfl, he, hr⟩)⟩)
    · exact br_f c0 (br_f c1 (br_f c0 (br_f c1 ⟨rfl, rfl, he, hr⟩)))
end
