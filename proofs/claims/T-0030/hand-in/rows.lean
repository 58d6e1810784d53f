section
theorem pk_sub {a b : Nat} (h : b ≤ a) : nI a - nI b = nI (a - b) := by
  obtain ⟨c, rfl⟩ : ∃ c, a = c + b := ⟨a - b, by omega⟩
  rw [← nI_add, Int32.add_sub_cancel, Nat.add_sub_cancel]
theorem pk_mul (a b : Nat) : nI a * nI b = nI (a * b) := (Int32.ofNat_mul a b).symm
theorem pb_1 : nI 1 = 1 := by decide +kernel
theorem pb_2 : nI 2 = 2 := by decide +kernel
theorem pb_9 : nI 9 = 9 := by decide +kernel
theorem pb_32 : nI 32 = 32 := by decide +kernel
/-- the indices of pair j -/
theorem pb_lo {j : Nat} (h : 1 ≤ j) : 2 * nI j - 2 = nI (2 * j - 2) := by
  rw [← pb_2, pk_mul, pk_sub (by omega)]
theorem pb_hi {j : Nat} (h : 1 ≤ j) : 2 * nI j - 1 = nI (2 * j - 1) := by
  rw [← pb_2, ← pb_1, pk_mul, pk_sub (by omega)]
theorem pb_inlo {j : Nat} (h : 1 ≤ j) (h8 : j ≤ 8) : vp_in (2 * nI j - 2) 32 := by
  rw [pb_lo h]; exact vp_in_nI (by omega) (by omega)
theorem pb_inhi {j : Nat} (h : 1 ≤ j) (h8 : j ≤ 8) : vp_in (2 * nI j - 1) 32 := by
  rw [pb_hi h]; exact vp_in_nI (by omega) (by omega)
theorem pb_s2 (s : Nat) : nI s + 2 = nI (s + 2) := by rw [← pb_2, nI_add]
/-- room for a pair: as the component asks, and as the reference asks -/
theorem pb_rx {o s : Nat} (ho : o ≤ 32) (hs : s ≤ o) : 2 ≤ nI o - nI s ↔ s + 2 ≤ o := by
  rw [← pb_2, pk_sub hs, nI_leI (by omega) (by omega)]; omega
theorem pb_ry {o s : Nat} (ho : o ≤ 32) (hs : s ≤ o) : nI s + 2 ≤ nI o ↔ s + 2 ≤ o := by
  rw [pb_s2, nI_leI (by omega) (by omega)]
end
section
/-- the two objects hold the same caps, the same cells, the same counts; b the book's cap, o the output's, s the used cells, c the current phrase -/
def i_Rel (_ : Nat) (u : SX) (v : SY) : Prop := ∃ (b : Int32) (o s c : Nat) (a : Nat → Int32), u = (b, nI o, nI s, nI c, a) ∧ v = (nI o, nI s, b, nI c, a) ∧ b ≤ 8 ∧ o ≤ 32 ∧ s ≤ o ∧ c ≤ 8
theorem i_up {k : Nat} {u : SX} {v : SY} (h : i_Rel k u v) : i_Rel (k + 2) u v := h
theorem pb_book (k0 k1 : Int32) : ∃ b : Int32, b ≤ 8 ∧ (∀ post : SX → Prop, wX_init_21 post k1 b 0 0 0 0 → wpX_init post k0 k1) ∧ (∀ post : SY → Prop, wY_init_25 post k1 b 0 0 0 0 → wpY_init post k0 k1) := by
  have z8 : (0 : Int32) ≤ 8 := by decide
  by_cases h0 : 0 ≤ k0
  · by_cases h8 : k0 ≤ 8
    · exact ⟨k0, h8, fun _ hp => br_t h0 (br_t h8 hp), fun _ hp => br_t h0 (br_t h8 hp)⟩
    · exact ⟨8, Int32.le_refl 8, fun _ hp => br_t h0 (br_f h8 hp), fun _ hp => br_t h0 (br_f h8 hp)⟩
  · exact ⟨0, z8, fun _ hp => br_f h0 (br_t z8 hp), fun _ hp => br_f h0 hp⟩
theorem pb_outc (k1 b : Int32) : ∃ o : Nat, o ≤ 32 ∧ (∀ post : SX → Prop, post (b, nI o, 0, 0, (fun _ => 0)) → wX_init_21 post k1 b 0 0 0 0) ∧ (∀ post : SY → Prop, post (nI o, 0, b, 0, (fun _ => 0)) → wY_init_25 post k1 b 0 0 0 0) := by
  have z32 : (0 : Int32) ≤ 32 := by decide
  by_cases h0 : 0 ≤ k1
  · by_cases h32 : k1 ≤ 32
    · obtain ⟨o, ho, rfl⟩ := nI_of2 (x := k1) (M := 32) (n := 32) (by decide) (Int32.not_lt.mpr h0) h32
      exact ⟨o, ho, fun _ hp => br_t h0 (br_t h32 hp), fun _ hp => br_t h0 (br_t h32 hp)⟩
    · refine ⟨32, Nat.le_refl 32, fun _ hp => br_t h0 (br_f h32 ?_), fun _ hp => br_t h0 (br_f h32 ?_)⟩
      · rw [pb_32] at hp; exact hp
      · rw [pb_32] at hp; exact hp
  · refine ⟨0, Nat.zero_le 32, fun _ hp => br_f h0 (br_t z32 ?_), fun _ hp => br_f h0 ?_⟩
    · rw [nI_0] at hp; exact hp
    · rw [nI_0] at hp; exact hp
theorem i_vc0 (k0 : Int32) (k1 : Int32) : wpX_init (fun u => wpY_init (fun v => i_Rel 2 u v) k0 k1) k0 k1 := by
  obtain ⟨b, hb, hX, hY⟩ := pb_book k0 k1
  obtain ⟨o, ho, gX, gY⟩ := pb_outc k1 b
  exact hX _ (gX _ (hY _ (gY _ ⟨b, o, 0, 0, (fun _ => 0), by rw [nI_0], by rw [nI_0], hb, ho, Nat.zero_le o, Nat.zero_le 8⟩)))
/-- the reference's emit: there is room, there is none -/
theorem pb_emit {o s c : Nat} {b p q : Int32} {a : Nat → Int32} (ho : o ≤ 32) (e : s + 2 ≤ o) (post : Int32 → SY → Prop) (hp : post 0 (nI o, nI s + 2, b, 0, upd (upd a (nI s).toNatClampNeg p) (nI s + 1).toNatClampNeg q)) : wpY_emit post (nI o, nI s, b, nI c, a) p q := by
  have i1 : vp_in (nI s) 32 := vp_in_nI (by omega) (by omega)
  have i2 : vp_in (nI s + 1) 32 := by rw [nI_1]; exact vp_in_nI (by omega) (by omega)
  have h : nI s + 2 ≤ nI o := (pb_ry ho (by omega)).mpr e
  refine br_t h ⟨i1, fun x ex => ⟨i2, fun y ey => fun z ez => ?_⟩⟩
  rw [ez, ey, ex]; exact hp
theorem pb_emit0 {o s c : Nat} {b p q : Int32} {a : Nat → Int32} (ho : o ≤ 32) (hs : s ≤ o) (e : ¬ s + 2 ≤ o) (post : Int32 → SY → Prop) (hp : post (-1) (nI o, nI s, b, nI c, a)) : wpY_emit post (nI o, nI s, b, nI c, a) p q :=
  br_f (fun z => e ((pb_ry ho hs).mp z)) hp
/-- the states behind an emitted pair -/
theorem pb_rel {o s : Nat} {b : Int32} (a : Nat → Int32) (hb : b ≤ 8) (ho : o ≤ 32) (e : s + 2 ≤ o) (k : Nat) : i_Rel k (b, nI o, nI s + 2, 0, a) (nI o, nI s + 2, b, 0, a) :=
  ⟨b, o, s + 2, 0, a, by rw [pb_s2, nI_0], by rw [pb_s2, nI_0], hb, ho, e, Nat.zero_le 8⟩
end
section
/-- no pair matches: both emit, or both are full -/
theorem pb_end {b L v1 : Int32} {o s c j : Nat} {a : Nat → Int32} (hb : b ≤ 8) (ho : o ≤ 32) (hs : s ≤ o) (hc : c ≤ 8) (h : L < nI j) (n : Nat) : ∃ (r : Int32) (u' : SX) (v' : SY), (∀ k, i_Rel k u' v') ∧ (∀ post : Int32 → SX → Prop, post r u' → wX_feed_25 post v1 L b (nI o) (nI s) (nI c) a (n + 1) (nI j)) ∧ (∀ post : Int32 → SY → Prop, post r v' → wY_feed_29 post v1 L (nI o) (nI s) b (nI c) a (n + 1) (nI j)) := by
  by_cases e : s + 2 ≤ o
  · have i1 : vp_in (nI s) 32 := vp_in_nI (by omega) (by omega)
    have i2 : vp_in (nI s + 1) 32 := by rw [nI_1]; exact vp_in_nI (by omega) (by omega)
    have h2 : 2 ≤ nI o - nI s := (pb_rx ho hs).mpr e
    refine ⟨0, (b, nI o, nI s + 2, 0, upd (upd a (nI s).toNatClampNeg (nI c)) (nI s + 1).toNatClampNeg v1), (nI o, nI s + 2, b, 0, upd (upd a (nI s).toNatClampNeg (nI c)) (nI s + 1).toNatClampNeg v1), pb_rel _ hb ho e, fun post hp => br_t h (br_t h2 ⟨i1, fun x ex => ⟨i2, fun y ey => fun z ez => ?_⟩⟩), fun post hp => br_t h (pb_emit ho e _ hp)⟩
    rw [ez, ey, ex]; exact hp
  · have h2 : ¬ 2 ≤ nI o - nI s := fun z => e ((pb_rx ho hs).mp z)
    exact ⟨-1, (b, nI o, nI s, nI c, a), (nI o, nI s, b, nI c, a), fun k => ⟨b, o, s, c, a, rfl, rfl, hb, ho, hs, hc⟩, fun post hp => br_t h (br_f h2 hp), fun post hp => br_t h (pb_emit0 ho hs e _ hp)⟩
/-- the scan over the pairs, in lockstep: one outcome for both -/
theorem pb_scan {b L v1 : Int32} {o s c : Nat} {a : Nat → Int32} (hb : b ≤ 8) (hL : L ≤ 8) (ho : o ≤ 32) (hs : s ≤ o) (hc : c ≤ 8) : ∀ d j : Nat, j + d = 9 → 1 ≤ j → ∃ (r : Int32) (u' : SX) (v' : SY), (∀ k, i_Rel k u' v') ∧ (∀ post : Int32 → SX → Prop, post r u' → wX_feed_25 post v1 L b (nI o) (nI s) (nI c) a (d + 1) (nI j)) ∧ (∀ post : Int32 → SY → Prop, post r v' → wY_feed_29 post v1 L (nI o) (nI s) b (nI c) a (d + 1) (nI j)) := by
  intro d
  induction d with
  | zero =>
    intro j hj h1
    have e9 : j = 9 := by omega
    have h : L < nI j := by
      rw [e9, pb_9, Int32.lt_iff_toInt_lt, show (9 : Int32).toInt = 9 from by decide]
      rw [Int32.le_iff_toInt_le, show (8 : Int32).toInt = 8 from by decide] at hL
      omega
    exact pb_end hb ho hs hc h 0
  | succ d ih =>
    intro j hj h1
    by_cases h : L < nI j
    · exact pb_end hb ho hs hc h (d + 1)
    · have i1 : vp_in (2 * nI j - 2) 32 := pb_inlo h1 (by omega)
      have i2 : vp_in (2 * nI j - 1) 32 := pb_inhi h1 (by omega)
      obtain ⟨r, u', v', hR, hX, hY⟩ := ih (j + 1) (by omega) (by omega)
      rw [← nI_1 j] at hX hY
      by_cases m1 : a (2 * nI j - 2).toNatClampNeg = nI c
      · by_cases m2 : a (2 * nI j - 1).toNatClampNeg = v1
        · exact ⟨0, (b, nI o, nI s, nI j, a), (nI o, nI s, b, nI j, a), fun k => ⟨b, o, s, j, a, rfl, rfl, hb, ho, hs, by omega⟩, fun post hp => br_f h ⟨i1, br_t m1 ⟨i2, br_t m2 hp⟩⟩, fun post hp => br_f h ⟨i1, br_t m1 ⟨i2, br_t m2 hp⟩⟩⟩
        · refine ⟨r, u', v', hR, fun post hp => br_f h ⟨i1, br_t m1 ⟨i2, br_f m2 fun y ey => ?_⟩⟩, fun post hp => br_f h ⟨i1, br_t m1 ⟨i2, br_f m2 fun y ey => ?_⟩⟩⟩
          · rw [ey]; exact hX post hp
          · rw [ey]; exact hY post hp
      · refine ⟨r, u', v', hR, fun post hp => br_f h ⟨i1, br_f m1 fun y ey => ?_⟩, fun post hp => br_f h ⟨i1, br_f m1 fun y ey => ?_⟩⟩
        · rw [ey]; exact hX post hp
        · rw [ey]; exact hY post hp
theorem i_vc_feed {k : Nat} {u : SX} {v : SY} (I : i_Rel k u v) (hk : k + 2 ≤ 1026) (v1 : Int32) : wpX_feed (fun r u' => wpY_feed (fun r' v' => r' = r ∧ i_Rel (k + 2) u' v') v v1) u v1 := by
  obtain ⟨b, o, s, c, a, rfl, rfl, hb, ho, hs, hc⟩ := I
  have z : ¬ (2 : Int32) = 0 := by decide
  by_cases h : b ≤ nI s / 2
  · obtain ⟨r, u', v', hR, hX, hY⟩ := pb_scan (v1 := v1) (a := a) hb hb ho hs hc 8 1 rfl (Nat.le_refl 1)
    rw [pb_1] at hX hY
    refine ⟨z, fun p ep => br_c (fun h' => ?_) (fun h' => ?_)⟩
    · have e : p = b := Int32.le_antisymm h' (by rw [ep]; exact h)
      rw [e]
      exact ⟨9, hX _ ⟨z, br_t h ⟨9, hY _ ⟨rfl, hR _⟩⟩⟩⟩
    · exact ⟨9, hX _ ⟨z, br_t h ⟨9, hY _ ⟨rfl, hR _⟩⟩⟩⟩
  · have h' : nI s / 2 ≤ b := (Int32.le_total b (nI s / 2)).resolve_left h
    obtain ⟨r, u', v', hR, hX, hY⟩ := pb_scan (v1 := v1) (a := a) hb (Int32.le_trans h' hb) ho hs hc 8 1 rfl (Nat.le_refl 1)
    rw [pb_1] at hX hY
    refine ⟨z, fun p ep => ?_⟩
    rw [ep]
    refine br_t h' ⟨9, hX _ ⟨z, br_f h ⟨z, fun q eq => ?_⟩⟩⟩
    rw [eq]
    exact ⟨9, hY _ ⟨rfl, hR _⟩⟩
end
section
theorem i_vc_flush {k : Nat} {u : SX} {v : SY} (I : i_Rel k u v) (hk : k + 2 ≤ 1026) : wpX_flush (fun r u' => wpY_flush (fun r' v' => r' = r ∧ i_Rel (k + 2) u' v') v) u := by
  obtain ⟨b, o, s, c, a, rfl, rfl, hb, ho, hs, hc⟩ := I
  by_cases h : nI c = 0
  · exact br_t h (br_t h ⟨rfl, b, o, s, c, a, rfl, rfl, hb, ho, hs, hc⟩)
  · have h1 : 1 ≤ c := by
      rcases Nat.eq_zero_or_pos c with e | e
      · exact absurd (by rw [e, nI_0]) h
      · exact e
    have i1 : vp_in (2 * nI c - 2) 32 := pb_inlo h1 hc
    have i2 : vp_in (2 * nI c - 1) 32 := pb_inhi h1 hc
    by_cases e : s + 2 ≤ o
    · have i3 : vp_in (nI s) 32 := vp_in_nI (by omega) (by omega)
      have i4 : vp_in (nI s + 1) 32 := by rw [nI_1]; exact vp_in_nI (by omega) (by omega)
      have h2 : 2 ≤ nI o - nI s := (pb_rx ho hs).mpr e
      refine br_f h (br_t h2 ⟨i1, fun p ep => ⟨i2, fun q eq => ⟨i3, fun x ex => ⟨i4, fun y ey => fun z ez => ?_⟩⟩⟩⟩)
      rw [ez, ey, ex, eq, ep]
      exact br_f h ⟨i1, i2, pb_emit ho e _ ⟨rfl, pb_rel _ hb ho e _⟩⟩
    · have h2 : ¬ 2 ≤ nI o - nI s := fun z => e ((pb_rx ho hs).mp z)
      exact br_f h (br_f h2 (br_f h ⟨i1, i2, pb_emit0 ho hs e _ ⟨rfl, b, o, s, c, a, rfl, rfl, hb, ho, hs, hc⟩⟩))
theorem i_vc_size {k : Nat} {u : SX} {v : SY} (I : i_Rel k u v) (hk : k + 2 ≤ 1026) : wpX_size (fun r => wpY_size (fun r' => r' = r ∧ i_Rel (k + 2) u v) v) u := by
  obtain ⟨b, o, s, c, a, rfl, rfl, h⟩ := I
  exact ⟨rfl, b, o, s, c, a, rfl, rfl, h⟩
theorem i_vc_current {k : Nat} {u : SX} {v : SY} (I : i_Rel k u v) (hk : k + 2 ≤ 1026) : wpX_current (fun r => wpY_current (fun r' => r' = r ∧ i_Rel (k + 2) u v) v) u := by
  obtain ⟨b, o, s, c, a, rfl, rfl, h⟩ := I
  exact ⟨rfl, b, o, s, c, a, rfl, rfl, h⟩
theorem i_vc_out {k : Nat} {u : SX} {v : SY} (I : i_Rel k u v) (hk : k + 2 ≤ 1026) (v1 : Int32) : wpX_out (fun r => wpY_out (fun r' => r' = r ∧ i_Rel (k + 2) u v) v v1) u v1 := by
  obtain ⟨b, o, s, c, a, rfl, rfl, hb, ho, hs, hc⟩ := I
  have R : i_Rel (k + 2) (b, nI o, nI s, nI c, a) (nI o, nI s, b, nI c, a) := ⟨b, o, s, c, a, rfl, rfl, hb, ho, hs, hc⟩
  by_cases h0 : v1 < 0
  · exact br_t h0 (br_t h0 ⟨rfl, R⟩)
  · by_cases h1 : nI s ≤ v1
    · exact br_f h0 (br_t h1 (br_f h0 (br_t h1 ⟨rfl, R⟩)))
    · have i1 : vp_in v1 32 := by
        obtain ⟨j, hj, rfl⟩ := nI_of h0
        rw [nI_leI (by omega) hj] at h1
        exact vp_in_nI (by omega) (by omega)
      exact br_f h0 (br_f h1 ⟨i1, br_f h0 (br_f h1 ⟨i1, rfl, R⟩)⟩)
end
