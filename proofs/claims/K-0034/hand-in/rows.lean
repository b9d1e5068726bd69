section
/-- a row holds nothing at and beyond the width -/
def fr_z (w : Nat) (p : Nat → Int32) : Prop := ∀ j, w ≤ j → p j = 0
theorem fr_upd {p : Nat → Int32} {w i : Nat} {x : Int32} (hi : i < w) (h : fr_z w p) : fr_z w (upd p i x) := by
  intro j hj
  have hne : ¬ j = i := by omega
  show (if j = i then x else p j) = 0
  rw [if_neg hne]
  exact h j hj
theorem fr_n0 : vp_nar .short 0 = 0 := by rw [vp_nar_short]; decide
theorem fr_4 : nI 4 = 4 := by decide +kernel
/-- the current row after the columns i .. n - 1 have been taken over -/
def fr_P (i n : Nat) (p q : Nat → Int32) : Nat → Int32 := fun j => if i ≤ j ∧ j < n then vp_nar .short (q j) else p j
/-- the next row after the columns i .. n - 1 have been cleared -/
def fr_Q (i n : Nat) (q : Nat → Int32) : Nat → Int32 := fun j => if i ≤ j ∧ j < n then vp_nar .short 0 else q j
theorem fr_Ps {i n : Nat} (h : i < n) (p q : Nat → Int32) (x : Int32) : fr_P (i + 1) n (upd p i (vp_nar .short (q i))) (upd q i x) = fr_P i n p q := by
  funext j
  show (if i + 1 ≤ j ∧ j < n then vp_nar .short (if j = i then x else q j) else (if j = i then vp_nar .short (q i) else p j)) = (if i ≤ j ∧ j < n then vp_nar .short (q j) else p j)
  by_cases hj : j = i
  · subst hj
    have h1 : ¬ (j + 1 ≤ j ∧ j < n) := by omega
    rw [if_neg h1, if_pos rfl, if_pos ⟨Nat.le_refl j, h⟩]
  · rw [if_neg hj, if_neg hj]
    by_cases h1 : i + 1 ≤ j ∧ j < n
    · have h2 : i ≤ j ∧ j < n := by omega
      rw [if_pos h1, if_pos h2]
    · have h2 : ¬ (i ≤ j ∧ j < n) := by omega
      rw [if_neg h1, if_neg h2]
theorem fr_Qs {i n : Nat} (h : i < n) (q : Nat → Int32) : fr_Q (i + 1) n (upd q i (vp_nar .short 0)) = fr_Q i n q := by
  funext j
  show (if i + 1 ≤ j ∧ j < n then vp_nar .short 0 else (if j = i then vp_nar .short 0 else q j)) = (if i ≤ j ∧ j < n then vp_nar .short 0 else q j)
  by_cases hj : j = i
  · subst hj
    have h1 : ¬ (j + 1 ≤ j ∧ j < n) := by omega
    rw [if_neg h1, if_pos rfl, if_pos ⟨Nat.le_refl j, h⟩]
  · rw [if_neg hj]
    by_cases h1 : i + 1 ≤ j ∧ j < n
    · have h2 : i ≤ j ∧ j < n := by omega
      rw [if_pos h1, if_pos h2]
    · have h2 : ¬ (i ≤ j ∧ j < n) := by omega
      rw [if_neg h1, if_neg h2]
theorem fr_Pe {i n : Nat} (h : n ≤ i) (p q : Nat → Int32) : fr_P i n p q = p := by
  funext j
  have h1 : ¬ (i ≤ j ∧ j < n) := by omega
  show (if i ≤ j ∧ j < n then vp_nar .short (q j) else p j) = p j
  rw [if_neg h1]
theorem fr_Qe {i n : Nat} (h : n ≤ i) (q : Nat → Int32) : fr_Q i n q = q := by
  funext j
  have h1 : ¬ (i ≤ j ∧ j < n) := by omega
  show (if i ≤ j ∧ j < n then vp_nar .short 0 else q j) = q j
  rw [if_neg h1]
/-- four columns or the width's columns: the same row -/
theorem fr_P4 {w : Nat} (hw : w ≤ 4) {p q : Nat → Int32} (hp : fr_z w p) (hq : fr_z w q) : fr_P 0 4 p q = fr_P 0 w p q := by
  funext j
  show (if 0 ≤ j ∧ j < 4 then vp_nar .short (q j) else p j) = (if 0 ≤ j ∧ j < w then vp_nar .short (q j) else p j)
  by_cases h1 : j < w
  · have h2 : 0 ≤ j ∧ j < 4 := by omega
    have h3 : 0 ≤ j ∧ j < w := by omega
    rw [if_pos h2, if_pos h3]
  · have h3 : ¬ (0 ≤ j ∧ j < w) := by omega
    rw [if_neg h3, hp j (by omega), hq j (by omega), fr_n0]
    by_cases h2 : 0 ≤ j ∧ j < 4
    · rw [if_pos h2]
    · rw [if_neg h2]
theorem fr_Q4 {w : Nat} (hw : w ≤ 4) {q : Nat → Int32} (hq : fr_z w q) : fr_Q 0 4 q = fr_Q 0 w q := by
  funext j
  show (if 0 ≤ j ∧ j < 4 then vp_nar .short 0 else q j) = (if 0 ≤ j ∧ j < w then vp_nar .short 0 else q j)
  by_cases h1 : j < w
  · have h2 : 0 ≤ j ∧ j < 4 := by omega
    have h3 : 0 ≤ j ∧ j < w := by omega
    rw [if_pos h2, if_pos h3]
  · have h3 : ¬ (0 ≤ j ∧ j < w) := by omega
    rw [if_neg h3, hq j (by omega), fr_n0]
    by_cases h2 : 0 ≤ j ∧ j < 4
    · rw [if_pos h2]
    · rw [if_neg h2]
theorem fr_Pz {w : Nat} {p q : Nat → Int32} (hp : fr_z w p) : fr_z w (fr_P 0 w p q) := by
  intro j hj
  have h3 : ¬ (0 ≤ j ∧ j < w) := by omega
  show (if 0 ≤ j ∧ j < w then vp_nar .short (q j) else p j) = 0
  rw [if_neg h3]
  exact hp j hj
theorem fr_Qz {w : Nat} {q : Nat → Int32} (hq : fr_z w q) : fr_z w (fr_Q 0 w q) := by
  intro j hj
  have h3 : ¬ (0 ≤ j ∧ j < w) := by omega
  show (if 0 ≤ j ∧ j < w then vp_nar .short 0 else q j) = 0
  rw [if_neg h3]
  exact hq j hj
end
section
/-- the last store of push: one outcome for both sides -/
theorem fr_164 {w c : Nat} (hc : c < w) (hw : w ≤ 4) (x5 x6 f g : Int32) (p q : Nat → Int32) (hq : fr_z w q) : ∃ q' : Nat → Int32, fr_z w q' ∧ (∀ post : Int32 → SX → Prop, post x5 (f, g, p, q') → wX_push_164 post (nI c) x5 x6 f g p q) ∧ (∀ post : Int32 → SY → Prop, post x5 (g, f, p, q') → wY_push_151 post (nI c) x5 x6 g f p q) := by
  have hi : vp_in (nI c) 4 := vp_in_nI (by omega) (by omega)
  have e : (nI c).toNatClampNeg = c := nI_clamp (by omega)
  refine ⟨upd q c (vp_nar .short (((q c) + ((x6 * 5) >>> ((4 : Int32) &&& 31))).toInt16.toInt32)), fr_upd hc hq, fun post h => ?_, fun post h => ?_⟩
  · unfold wX_push_164
    rw [e]
    exact ⟨hi, hi, nm_e h⟩
  · unfold wY_push_151
    rw [e]
    exact ⟨hi, hi, nm_e h⟩
/-- the store to the left, if there is a left -/
theorem fr_136 {w c : Nat} (hc : c < w) (hw : w ≤ 4) (x5 x6 f g : Int32) (p q : Nat → Int32) (hq : fr_z w q) : ∃ q' : Nat → Int32, fr_z w q' ∧ (∀ post : Int32 → SX → Prop, post x5 (f, g, p, q') → wX_push_136 post (nI c) x5 x6 f g p q) ∧ (∀ post : Int32 → SY → Prop, post x5 (g, f, p, q') → wY_push_129 post (nI c) x5 x6 g f p q) := by
  by_cases h0 : c = 0
  · have hle : nI c ≤ 0 := by rw [h0, nI_0]; decide
    obtain ⟨q', hz, hX, hY⟩ := fr_164 hc hw x5 x6 f g p q hq
    refine ⟨q', hz, fun post h => ?_, fun post h => ?_⟩
    · unfold wX_push_136
      exact br_t hle (hX post h)
    · unfold wY_push_129
      exact br_t hle (hY post h)
  · obtain ⟨d, rfl⟩ : ∃ d, c = d + 1 := ⟨c - 1, by omega⟩
    have hle : ¬ nI (d + 1) ≤ 0 := nI_nle (by omega) (by omega)
    have hi : vp_in (nI (d + 1) - 1) 4 := by rw [nI_pred]; exact vp_in_nI (by omega) (by omega)
    have e : (nI (d + 1) - 1).toNatClampNeg = d := by rw [nI_pred]; exact nI_clamp (by omega)
    obtain ⟨q', hz, hX, hY⟩ := fr_164 hc hw x5 x6 f g p (upd q d (vp_nar .short (((q d) + ((x6 * 3) >>> ((4 : Int32) &&& 31))).toInt16.toInt32))) (fr_upd (by omega) hq)
    refine ⟨q', hz, fun post h => ?_, fun post h => ?_⟩
    · unfold wX_push_136
      rw [e]
      exact br_f hle ⟨hi, hi, nm_e (hX post h)⟩
    · unfold wY_push_129
      rw [e]
      exact br_f hle ⟨hi, hi, nm_e (hY post h)⟩
/-- the error, and the stores to the right, if there is a right -/
theorem fr_68 {w c : Nat} (hc : c < w) (hw : w ≤ 4) (x4 x5 f : Int32) (p q : Nat → Int32) (hp : fr_z w p) (hq : fr_z w q) : ∃ p' q' : Nat → Int32, fr_z w p' ∧ fr_z w q' ∧ (∀ post : Int32 → SX → Prop, post x5 (f, nI w, p', q') → wX_push_68 post (nI c) x4 x5 f (nI w) p q) ∧ (∀ post : Int32 → SY → Prop, post x5 (nI w, f, p', q') → wY_push_71 post (nI c) x4 x5 (nI w) f p q) := by
  by_cases hl : w ≤ c + 1
  · have hle : nI w ≤ nI c + 1 := by rw [nI_1]; exact nI_le hl (by omega)
    obtain ⟨q', hz, hX, hY⟩ := fr_136 hc hw x5 (x4 - (255 * x5)) f (nI w) p q hq
    refine ⟨p, q', hp, hz, fun post h => ?_, fun post h => ?_⟩
    · unfold wX_push_68
      exact nm_e (br_t hle (hX post h))
    · unfold wY_push_71
      exact nm_e (br_t hle (hY post h))
  · have hle : ¬ nI w ≤ nI c + 1 := by rw [nI_1]; exact nI_ge (by omega) (by omega)
    have hi : vp_in (nI c + 1) 4 := by rw [nI_1]; exact vp_in_nI (by omega) (by omega)
    have e : (nI c + 1).toNatClampNeg = c + 1 := by rw [nI_1]; exact nI_clamp (by omega)
    obtain ⟨q', hz, hX, hY⟩ := fr_136 hc hw x5 (x4 - (255 * x5)) f (nI w) (upd p (c + 1) (vp_nar .short (((p (c + 1)) + (((x4 - (255 * x5)) * 7) >>> ((4 : Int32) &&& 31))).toInt16.toInt32))) (upd q (c + 1) (vp_nar .short (((q (c + 1)) + ((x4 - (255 * x5)) >>> ((4 : Int32) &&& 31))).toInt16.toInt32))) (fr_upd (by omega) hq)
    refine ⟨upd p (c + 1) (vp_nar .short (((p (c + 1)) + (((x4 - (255 * x5)) * 7) >>> ((4 : Int32) &&& 31))).toInt16.toInt32)), q', fr_upd (by omega) hp, hz, fun post h => ?_, fun post h => ?_⟩
    · unfold wX_push_68
      rw [e]
      exact nm_e (br_f hle ⟨hi, hi, nm_e ⟨hi, hi, nm_e (hX post h)⟩⟩)
    · unfold wY_push_71
      rw [e]
      exact nm_e (br_f hle ⟨hi, hi, nm_e ⟨hi, hi, nm_e (hY post h)⟩⟩)
/-- push behind the clamp of its argument -/
theorem fr_32 {w c : Nat} (hc : c < w) (hw : w ≤ 4) (g : Int32) (p q : Nat → Int32) (hp : fr_z w p) (hq : fr_z w q) : ∃ (r : Int32) (p' q' : Nat → Int32), fr_z w p' ∧ fr_z w q' ∧ (∀ post : Int32 → SX → Prop, post r (nI (c + 1), nI w, p', q') → wX_push_32 post g (nI c) (nI w) p q) ∧ (∀ post : Int32 → SY → Prop, post r (nI w, nI (c + 1), p', q') → wY_push_35 post g (nI w) (nI c) p q) := by
  have hi : vp_in (nI c) 4 := vp_in_nI (by omega) (by omega)
  by_cases hv : g + p (nI c).toNatClampNeg < 128
  · obtain ⟨p', q', hzp, hzq, hX, hY⟩ := fr_68 hc hw (g + p (nI c).toNatClampNeg) 0 (nI (c + 1)) p q hp hq
    refine ⟨0, p', q', hzp, hzq, fun post h => ?_, fun post h => ?_⟩
    · unfold wX_push_32
      exact nm_r (nI_1 c) ⟨hi, nm_e (br_t hv (hX post h))⟩
    · unfold wY_push_35
      exact nm_r (nI_1 c) ⟨hi, nm_e (br_t hv (hY post h))⟩
  · obtain ⟨p', q', hzp, hzq, hX, hY⟩ := fr_68 hc hw (g + p (nI c).toNatClampNeg) 1 (nI (c + 1)) p q hp hq
    refine ⟨1, p', q', hzp, hzq, fun post h => ?_, fun post h => ?_⟩
    · unfold wX_push_32
      exact nm_r (nI_1 c) ⟨hi, nm_e (br_f hv (hX post h))⟩
    · unfold wY_push_35
      exact nm_r (nI_1 c) ⟨hi, nm_e (br_f hv (hY post h))⟩
/-- the component's endRow loop: four columns -/
theorem fr_xe (post : Int32 → SX → Prop) (x1 fc fw : Int32) : ∀ (d i : Nat) (p q : Nat → Int32), i + d = 4 → post x1 (0, fw, fr_P i 4 p q, fr_Q i 4 q) → wX_endRow_7 post x1 fc fw (d + 1) (nI i) p q := by
  intro d
  induction d with
  | zero =>
    intro i p q hi h
    rw [fr_Pe (by omega), fr_Qe (by omega)] at h
    have hle : (4 : Int32) ≤ nI i := by rw [← fr_4]; exact nI_le (by omega) (by omega)
    unfold wX_endRow_7
    exact br_t hle h
  | succ d ih =>
    intro i p q hi h
    have hle : ¬ (4 : Int32) ≤ nI i := by rw [← fr_4]; exact nI_ge (by omega) (by omega)
    have hn : vp_in (nI i) 4 := vp_in_nI (by omega) (by omega)
    have e : (nI i).toNatClampNeg = i := nI_clamp (by omega)
    have hs := ih (i + 1) (upd p i (vp_nar .short (q i))) (upd q i (vp_nar .short 0)) (by omega) (by rw [fr_Ps (by omega), fr_Qs (by omega)]; exact h)
    unfold wX_endRow_7
    rw [e]
    exact br_f hle ⟨hn, hn, nm_e ⟨hn, nm_e (nm_r (nI_1 i) hs)⟩⟩
/-- the reference's endRow loop: the width's columns -/
theorem fr_ye (post : Int32 → SY → Prop) (x1 fc : Int32) (w : Nat) (hw : w ≤ 4) : ∀ (d i : Nat) (p q : Nat → Int32), i + d = w → post x1 (nI w, 0, fr_P i w p q, fr_Q i w q) → wY_endRow_7 post x1 (nI w) fc (d + 1) (nI i) p q := by
  intro d
  induction d with
  | zero =>
    intro i p q hi h
    rw [fr_Pe (by omega), fr_Qe (by omega)] at h
    have hle : nI w ≤ nI i := nI_le (by omega) (by omega)
    unfold wY_endRow_7
    exact br_t hle h
  | succ d ih =>
    intro i p q hi h
    have hle : ¬ nI w ≤ nI i := nI_ge (by omega) (by omega)
    have hn : vp_in (nI i) 4 := vp_in_nI (by omega) (by omega)
    have e : (nI i).toNatClampNeg = i := nI_clamp (by omega)
    have hs := ih (i + 1) (upd p i (vp_nar .short (q i))) (upd q i (vp_nar .short 0)) (by omega) (by rw [fr_Ps (by omega), fr_Qs (by omega)]; exact h)
    unfold wY_endRow_7
    rw [e]
    exact br_f hle ⟨hn, hn, nm_e ⟨hn, nm_e (nm_r (nI_1 i) hs)⟩⟩
end
section
/-- the same width and cursor, the same two rows, nothing at and beyond the width -/
def i_Rel (k : Nat) (u : SX) (v : SY) : Prop := ∃ (c w : Nat) (p q : Nat → Int32), u = (nI c, nI w, p, q) ∧ v = (nI w, nI c, p, q) ∧ c ≤ w ∧ w ≤ 4 ∧ fr_z w p ∧ fr_z w q
theorem i_up {k : Nat} {u : SX} {v : SY} (h : i_Rel k u v) : i_Rel (k + 2) u v := h
theorem fr_new {w : Nat} (hw : w ≤ 4) : i_Rel 1 (0, nI w, (fun _ => 0), (fun _ => 0)) (nI w, 0, (fun _ => 0), (fun _ => 0)) :=
  ⟨0, w, _, _, by rw [nI_0], by rw [nI_0], Nat.zero_le w, hw, fun _ _ => rfl, fun _ _ => rfl⟩
theorem i_vc0 (k0 : Int32) : wpX_init (fun u => wpY_init (fun v => i_Rel 1 u v) k0) k0 := by
  unfold wpX_init wX_init_13 wX_init_20 wpY_init wY_init_27
  by_cases h1 : 1 ≤ k0
  · by_cases h4 : k0 ≤ 4
    · have h0 : ¬ k0 < 0 := fun hlt => absurd (Int32.lt_of_le_of_lt h1 hlt) (by decide)
      obtain ⟨j, hj, rfl⟩ := nI_of2 (M := 4) (n := 4) (by decide) h0 h4
      exact br_t h1 (br_t h4 (br_t h1 (br_t h4 (fr_new hj))))
    · exact br_t h1 (br_f h4 (br_t h1 (br_f h4 (by rw [← fr_4]; exact fr_new (Nat.le_refl 4)))))
  · have h4 : (1 : Int32) ≤ 4 := by decide
    have e1 : nI 1 = 1 := by decide +kernel
    exact br_f h1 (br_t h4 (br_f h1 (br_t h4 (by rw [← e1]; exact fr_new (by omega)))))
theorem i_vc_column {k : Nat} {u : SX} {v : SY} (I : i_Rel k u v) (hk : k + 2 ≤ 1025) : wpX_column (fun r => wpY_column (fun r' => r' = r ∧ i_Rel (k + 2) u v) v) u := by
  have J : i_Rel (k + 2) u v := i_up I
  obtain ⟨c, w, p, q, rfl, rfl, hc, hw, hp, hq⟩ := I
  exact ⟨rfl, J⟩
theorem i_vc_carried {k : Nat} {u : SX} {v : SY} (I : i_Rel k u v) (hk : k + 2 ≤ 1025) (v1 : Int32) : wpX_carried (fun r => wpY_carried (fun r' => r' = r ∧ i_Rel (k + 2) u v) v v1) u v1 := by
  have J : i_Rel (k + 2) u v := i_up I
  obtain ⟨c, w, p, q, rfl, rfl, hc, hw, hp, hq⟩ := I
  unfold wpX_carried wpY_carried
  by_cases h0 : v1 < 0
  · exact br_t h0 (br_t h0 ⟨rfl, J⟩)
  · by_cases h8 : v1 < nI w
    · have hi : vp_in v1 4 := by
        obtain ⟨j, hj, rfl⟩ := nI_of h0
        rw [nI_ltI hj (by omega)] at h8
        exact vp_in_nI (by omega) (by omega)
      exact br_f h0 (br_t h8 ⟨hi, br_f h0 (br_t h8 ⟨hi, rfl, J⟩)⟩)
    · exact br_f h0 (br_f h8 (br_f h0 (br_f h8 ⟨rfl, J⟩)))
theorem i_vc_push {k : Nat} {u : SX} {v : SY} (I : i_Rel k u v) (hk : k + 2 ≤ 1025) (v1 : Int32) : wpX_push (fun r u' => wpY_push (fun r' v' => r' = r ∧ i_Rel (k + 2) u' v') v v1) u v1 := by
  have J : i_Rel (k + 2) u v := i_up I
  obtain ⟨c, w, p, q, rfl, rfl, hc, hw, hp, hq⟩ := I
  unfold wpX_push wpY_push
  by_cases hcw : c = w
  · subst hcw
    have hlt : ¬ nI c < nI c := nI_nlt (Nat.le_refl c) (by omega)
    exact br_t rfl (br_f hlt ⟨rfl, J⟩)
  · have hne : ¬ nI c = nI w := by rw [nI_eq (by omega) (by omega)]; exact hcw
    have hlt : nI c < nI w := nI_lt (by omega) (by omega)
    have hcl : c < w := by omega
    refine br_f hne ?_
    by_cases h0 : 0 ≤ v1
    · refine br_t h0 ?_
      unfold wX_push_21
      by_cases h2 : v1 ≤ 255
      · obtain ⟨r, p', q', hzp, hzq, hX, hY⟩ := fr_32 hcl hw v1 p q hp hq
        exact br_t h2 (hX _ (br_t hlt (br_t h0 (br_t h2 (hY _ ⟨rfl, c + 1, w, p', q', rfl, rfl, hcl, hw, hzp, hzq⟩)))))
      · obtain ⟨r, p', q', hzp, hzq, hX, hY⟩ := fr_32 hcl hw 255 p q hp hq
        exact br_f h2 (hX _ (br_t hlt (br_t h0 (br_f h2 (hY _ ⟨rfl, c + 1, w, p', q', rfl, rfl, hcl, hw, hzp, hzq⟩)))))
    · refine br_f h0 ?_
      unfold wX_push_21
      have h2 : (0 : Int32) ≤ 255 := by decide
      obtain ⟨r, p', q', hzp, hzq, hX, hY⟩ := fr_32 hcl hw 0 p q hp hq
      exact br_t h2 (hX _ (br_t hlt (br_f h0 (hY _ ⟨rfl, c + 1, w, p', q', rfl, rfl, hcl, hw, hzp, hzq⟩))))
theorem i_vc_endRow {k : Nat} {u : SX} {v : SY} (I : i_Rel k u v) (hk : k + 2 ≤ 1025) : wpX_endRow (fun r u' => wpY_endRow (fun r' v' => r' = r ∧ i_Rel (k + 2) u' v') v) u := by
  obtain ⟨c, w, p, q, rfl, rfl, hc, hw, hp, hq⟩ := I
  unfold wpX_endRow wpY_endRow
  dsimp only
  rw [← nI_0]
  refine ⟨5, fr_xe _ _ _ _ 4 0 p q rfl ?_⟩
  refine ⟨w + 1, fr_ye _ _ _ w hw w 0 p q (Nat.zero_add w) ?_⟩
  refine ⟨rfl, 0, w, fr_P 0 w p q, fr_Q 0 w q, ?_, ?_, Nat.zero_le w, hw, fr_Pz hp, fr_Qz hq⟩
  · rw [fr_P4 hw hp hq, fr_Q4 hw hq, nI_0]
  · rw [nI_0]
end
