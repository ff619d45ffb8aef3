section
/-- the clamp to 1 .. 255 -/
def qt_cl (s : Int32) : Int32 := if 1 ≤ s then (if s ≤ 255 then s else 255) else 1
/-- the step x scaled by factor f, before the clamp -/
def qt_v (f x : Int32) : Int32 := (((16 + (13 * x)) * f) + 50) / 100
/-- the factor of a quality within 1 .. 100 -/
def qt_f (x : Int32) : Int32 := if 50 ≤ x then 200 - (2 * x) else 5000 / x
/-- what the base table must hold -/
def qt_B (b : Nat → Int32) (n : Nat) : Prop := ∀ j, j < n → b j &&& 255 = 16 + (13 * nI j)
/-- what the scaled table must hold, for the factor f -/
def qt_S (f : Int32) (s : Nat → Int32) (n : Nat) : Prop := ∀ j, j < n → s j = qt_cl (qt_v f (nI j))
theorem qt_16 : nI 16 = 16 := by decide +kernel
theorem qt_cl_a {s : Int32} (h : ¬ 1 ≤ s) : (1 : Int32) = qt_cl s := by unfold qt_cl; rw [if_neg h]
theorem qt_cl_b {s : Int32} (h : 1 ≤ s) (h2 : s ≤ 255) : s = qt_cl s := by unfold qt_cl; rw [if_pos h, if_pos h2]
theorem qt_cl_c {s : Int32} (h : 1 ≤ s) (h2 : ¬ s ≤ 255) : (255 : Int32) = qt_cl s := by unfold qt_cl; rw [if_pos h, if_neg h2]
theorem qt_char : ∀ n, n < 256 → ((nI n).toUInt32 % 65536).toInt32.toUInt32.toUInt16.toUInt32.toInt32 = nI n := by decide +kernel
theorem qt_byte : ∀ j, j < 16 → (16 + (13 * nI j)).toInt8.toInt32.toInt8.toInt32 &&& 255 = 16 + (13 * nI j) := by decide +kernel
/-- a clamped value fits a char -/
theorem qt_ch (s : Int32) : vp_nar .char (((qt_cl s).toUInt32 % 65536).toInt32) = qt_cl s := by
  rw [vp_nar_char]
  by_cases h : 1 ≤ s
  · by_cases h2 : s ≤ 255
    · rw [← qt_cl_b h h2]
      have h0 : ¬ s < 0 := by
        rw [Int32.lt_iff_toInt_lt]
        rw [Int32.le_iff_toInt_le] at h
        have e1 : (1 : Int32).toInt = 1 := by decide
        have e0 : (0 : Int32).toInt = 0 := by decide
        omega
      obtain ⟨n, hn, e⟩ := nI_of2 (x := s) (M := 255) (n := 255) (by decide) h0 h2
      rw [e]
      exact qt_char n (by omega)
    · rw [← qt_cl_c h h2]; decide
  · rw [← qt_cl_a h]; decide
/-- rebuild's loop -/
theorem qt_reb (f : Int32) (b : Nat → Int32) (hb : qt_B b 16) (post : SX → Prop) (hp : ∀ s, qt_S f s 16 → post (b, s)) : ∀ d j : Nat, j + d = 16 → ∀ s, qt_S f s j → wX_rebuild_2 post f (d + 1) (nI j) b s := by
  intro d
  induction d with
  | zero =>
    intro j hj s hs
    have h : (16 : Int32) ≤ nI j := by rw [← qt_16]; exact nI_le (by omega) (by omega)
    exact br_t h (hp s (fun i hi => hs i (by omega)))
  | succ d ih =>
    intro j hj s hs
    have h : ¬ (16 : Int32) ≤ nI j := by rw [← qt_16]; exact nI_ge (by omega) (by omega)
    have hi : vp_in (nI j) 16 := vp_in_nI (by omega) (by omega)
    have hc : (nI j).toNatClampNeg = j := nI_clamp (by omega)
    have st : ∀ y : Int32, y = qt_cl (qt_v f (nI j)) → wX_rebuild_52 post (wX_rebuild_2 post f (d + 1)) f (nI j) y b s := by
      intro y hy
      refine And.intro hi (fun a ea x ex => ?_)
      rw [ex, nI_1]
      refine ih (j + 1) (by omega) a (fun i hi' => ?_)
      rw [ea, hc, hy, qt_ch]
      unfold upd
      by_cases e : i = j
      · rw [if_pos e, e]
      · rw [if_neg e]; exact hs i (by omega)
    refine br_f h ⟨hi, nm_r (e' := 16 + (13 * nI j)) (by rw [hc]; exact hb j (by omega)) ⟨by decide, nm_r (e' := qt_v f (nI j)) rfl ?_⟩⟩
    by_cases h1 : 1 ≤ qt_v f (nI j)
    · refine br_t h1 ?_
      by_cases h2 : qt_v f (nI j) ≤ 255
      · exact br_t h2 (st _ (qt_cl_b h1 h2))
      · exact br_f h2 (st _ (qt_cl_c h1 h2))
    · exact br_f h1 (br_t (by decide) (st _ (qt_cl_a h1)))
theorem qt_wreb (f : Int32) (b s : Nat → Int32) (hb : qt_B b 16) (post : SX → Prop) (hp : ∀ s, qt_S f s 16 → post (b, s)) : wpX_rebuild post (b, s) f :=
  Exists.intro 17 (qt_reb f b hb post hp 16 0 rfl s (fun i hi => absurd hi (Nat.not_lt_zero i)))
/-- the constructor's loop -/
theorem qt_ini (post : SX → Prop) (hp : ∀ b s, qt_B b 16 → qt_S 100 s 16 → post (b, s)) : ∀ d j : Nat, j + d = 16 → ∀ b s, qt_B b j → wX_init_22 post (d + 1) (nI j) b s := by
  intro d
  induction d with
  | zero =>
    intro j hj b s hb
    have h : (16 : Int32) ≤ nI j := by rw [← qt_16]; exact nI_le (by omega) (by omega)
    have hb' : qt_B b 16 := fun i hi => hb i (by omega)
    exact br_t h (qt_wreb 100 b s hb' _ (fun s' hs' => hp b s' hb' hs'))
  | succ d ih =>
    intro j hj b s hb
    have h : ¬ (16 : Int32) ≤ nI j := by rw [← qt_16]; exact nI_ge (by omega) (by omega)
    have hi : vp_in (nI j) 16 := vp_in_nI (by omega) (by omega)
    have hc : (nI j).toNatClampNeg = j := nI_clamp (by omega)
    refine br_f h ⟨hi, fun a ea x ex => ?_⟩
    rw [ex, nI_1]
    refine ih (j + 1) (by omega) a s (fun i hi' => ?_)
    rw [ea, hc, vp_nar_byte]
    unfold upd
    by_cases e : i = j
    · rw [if_pos e, e]; exact qt_byte j (by omega)
    · rw [if_neg e]; exact hb i (by omega)
/-- setQuality behind its clamps, both sides -/
theorem qt_x16 (post : Int32 → SX → Prop) (x : Int32) (hx : ¬ x = 0) (b s : Nat → Int32) (hb : qt_B b 16) (hp : ∀ s, qt_S (qt_f x) s 16 → post (qt_f x) (b, s)) : wX_setQuality_16 post x b s := by
  by_cases h : 50 ≤ x
  · have e : 200 - (2 * x) = qt_f x := by unfold qt_f; rw [if_pos h]
    exact br_t h (nm_r e (qt_wreb (qt_f x) b s hb _ hp))
  · have e : 5000 / x = qt_f x := by unfold qt_f; rw [if_neg h]
    exact br_f h ⟨hx, nm_r e (qt_wreb (qt_f x) b s hb _ hp)⟩
theorem qt_y16 (post : Int32 → SY → Prop) (x v : Int32) (hx : ¬ x = 0) (hp : post (qt_f x) (qt_f x)) : wY_setQuality_16 post x v := by
  by_cases h : 50 ≤ x
  · have e : 200 - (2 * x) = qt_f x := by unfold qt_f; rw [if_pos h]
    refine br_t h (nm_r e ?_)
    rw [e]; exact hp
  · have e : 5000 / x = qt_f x := by unfold qt_f; rw [if_neg h]
    refine br_f h ⟨hx, nm_r e ?_⟩
    rw [e]; exact hp
/-- the reference's step, within -/
theorem qt_ystep (post : Int32 → Prop) (f : Int32) (j : Nat) (hj : j < 16) (hp : post (qt_cl (qt_v f (nI j)))) : wpY_step post f (nI j) := by
  have h0 : ¬ nI j < 0 := nI_pos (by omega)
  have h5 : nI j ≤ 15 := nI_le (a := j) (b := 15) (by omega) (by decide)
  refine br_f h0 (br_t h5 ⟨by decide, nm_r (e' := qt_v f (nI j)) rfl ?_⟩)
  by_cases h1 : 1 ≤ qt_v f (nI j)
  · by_cases h2 : qt_v f (nI j) ≤ 255
    · rw [← qt_cl_b h1 h2] at hp; exact br_t h1 (br_t h2 hp)
    · rw [← qt_cl_c h1 h2] at hp; exact br_t h1 (br_f h2 hp)
  · rw [← qt_cl_a h1] at hp; exact br_f h1 hp
/-- the reference's isFlat, once its flag is down -/
theorem qt_yz (post : Int32 → Prop) (f : Int32) (hp : post 0) : ∀ d j : Nat, j + d = 16 → wY_isFlat_4 post f (d + 1) 0 (nI j) := by
  intro d
  induction d with
  | zero =>
    intro j hj
    have h : (16 : Int32) ≤ nI j := by rw [← qt_16]; exact nI_le (by omega) (by omega)
    exact br_t h ⟨rfl, hp⟩
  | succ d ih =>
    intro j hj
    have h : ¬ (16 : Int32) ≤ nI j := by rw [← qt_16]; exact nI_ge (by omega) (by omega)
    exact br_f h (qt_ystep _ f j (by omega) (br_c (fun _ => nm_r (nI_1 j) (ih (j + 1) (by omega))) (fun _ => nm_r (nI_1 j) (ih (j + 1) (by omega)))))
/-- isFlat: one answer for both loops -/
theorem qt_scan (b s : Nat → Int32) (f : Int32) (hs : qt_S f s 16) : ∀ d j : Nat, j + d = 16 → ∃ r : Int32, (∀ post : Int32 → Prop, post r → wX_isFlat_2 post b s (d + 1) (nI j)) ∧ (∀ post : Int32 → Prop, post r → wY_isFlat_4 post f (d + 1) 1 (nI j)) := by
  intro d
  induction d with
  | zero =>
    intro j hj
    have h : (16 : Int32) ≤ nI j := by rw [← qt_16]; exact nI_le (by omega) (by omega)
    exact ⟨1, fun _ hp => br_t h hp, fun _ hp => br_t h ⟨rfl, hp⟩⟩
  | succ d ih =>
    intro j hj
    have h : ¬ (16 : Int32) ≤ nI j := by rw [← qt_16]; exact nI_ge (by omega) (by omega)
    have hi : vp_in (nI j) 16 := vp_in_nI (by omega) (by omega)
    have hc : (nI j).toNatClampNeg = j := nI_clamp (by omega)
    have hv : s (nI j).toNatClampNeg = qt_cl (qt_v f (nI j)) := by rw [hc]; exact hs j (by omega)
    by_cases z : qt_cl (qt_v f (nI j)) = 1
    · obtain ⟨r, hX, hY⟩ := ih (j + 1) (by omega)
      exact ⟨r, fun post hp => br_f h ⟨hi, br_t (hv.trans z) (nm_r (nI_1 j) (hX post hp))⟩,
        fun post hp => br_f h (qt_ystep _ f j (by omega) (br_t z (nm_r (nI_1 j) (hY post hp))))⟩
    · exact ⟨0, fun post hp => br_f h ⟨hi, br_f (fun e => z (hv.symm.trans e)) hp⟩,
        fun post hp => br_f h (qt_ystep _ f j (by omega) (br_f z (nm_r (nI_1 j) (qt_yz post f hp d (j + 1) (by omega)))))⟩
end
section
/-- the base table holds 16 + 13 j (as a byte), the scaled one each step as the reference's factor gives it -/
def i_Rel (k : Nat) (u : SX) (v : SY) : Prop := qt_B u.1 16 ∧ qt_S v u.2 16
theorem i_up {k : Nat} {u : SX} {v : SY} (h : i_Rel k u v) : i_Rel (k + 2) u v := h
theorem i_vc0 : wpX_init (fun u => wpY_init (fun v => i_Rel 0 u v)) :=
  Exists.intro 17 (qt_ini _ (fun _ _ hb hs => ⟨hb, hs⟩) 16 0 rfl _ _ (fun i hi => absurd hi (Nat.not_lt_zero i)))
theorem i_vc_setQuality {k : Nat} {u : SX} {v : SY} (I : i_Rel k u v) (hk : k + 2 ≤ 1024) (v1 : Int32) : wpX_setQuality (fun r u' => wpY_setQuality (fun r' v' => r' = r ∧ i_Rel (k + 2) u' v') v v1) u v1 := by
  obtain ⟨b, s⟩ := u
  obtain ⟨hb, hs⟩ := I
  by_cases h1 : 1 ≤ v1
  · have hn : ¬ v1 = 0 := fun e => by rw [e] at h1; exact absurd h1 (by decide)
    by_cases h2 : v1 ≤ 100
    · exact br_t h1 (br_t h2 (qt_x16 _ v1 hn b s hb (fun s' hs' => br_t h1 (br_t h2 (qt_y16 _ v1 v hn ⟨rfl, hb, hs'⟩)))))
    · exact br_t h1 (br_f h2 (qt_x16 _ 100 (by decide) b s hb (fun s' hs' => br_t h1 (br_f h2 (qt_y16 _ 100 v (by decide) ⟨rfl, hb, hs'⟩)))))
  · exact br_f h1 (br_t (by decide) (qt_x16 _ 1 (by decide) b s hb (fun s' hs' => br_f h1 (br_t (by decide) (qt_y16 _ 1 v (by decide) ⟨rfl, hb, hs'⟩)))))
theorem i_vc_step {k : Nat} {u : SX} {v : SY} (I : i_Rel k u v) (hk : k + 2 ≤ 1024) (v1 : Int32) : wpX_step (fun r => wpY_step (fun r' => r' = r ∧ i_Rel (k + 2) u v) v v1) u v1 := by
  obtain ⟨b, s⟩ := u
  by_cases h0 : v1 < 0
  · exact br_t h0 (br_t h0 ⟨rfl, I⟩)
  · by_cases h5 : v1 ≤ 15
    · obtain ⟨j, hj, e⟩ := nI_of2 (x := v1) (M := 15) (n := 15) (by decide) h0 h5
      subst e
      have hc : (nI j).toNatClampNeg = j := nI_clamp (by omega)
      have hv : qt_cl (qt_v v (nI j)) = s (nI j).toNatClampNeg := by rw [hc]; exact (I.2 j (by omega)).symm
      exact br_f h0 (br_t h5 ⟨vp_in_nI (by omega) (by omega), qt_ystep _ v j (by omega) ⟨hv, I⟩⟩)
    · exact br_f h0 (br_f h5 (br_f h0 (br_f h5 ⟨rfl, I⟩)))
theorem i_vc_isFlat {k : Nat} {u : SX} {v : SY} (I : i_Rel k u v) (hk : k + 2 ≤ 1024) : wpX_isFlat (fun r => wpY_isFlat (fun r' => r' = r ∧ i_Rel (k + 2) u v) v) u := by
  obtain ⟨b, s⟩ := u
  obtain ⟨r, hX, hY⟩ := qt_scan b s v I.2 16 0 rfl
  exact Exists.intro 17 (hX _ (Exists.intro 17 (hY _ ⟨rfl, I⟩)))
end
