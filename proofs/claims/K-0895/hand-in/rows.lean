section
/-! the casts' second narrowing does nothing; the kinds 1, 2, 3; the loop of 'apply' in lockstep -/
def nc_V (x : Int32) : Prop := x = 1 ∨ x = 2 ∨ x = 3
theorem nc_vs (z : Int32) : vp_nar .short z.toInt16.toInt32 = z.toInt16.toInt32 := Value.int.inj (lw_i16_n z)
theorem nc_vc (z : Int32) : vp_nar .char (z.toUInt32 % 65536).toInt32 = (z.toUInt32 % 65536).toInt32 := Value.int.inj (lw_u16_n z)
theorem nc_vb {x : Int32} (h : nc_V x) : vp_nar .byte x.toInt8.toInt32 = x := by
  rw [vp_nar_byte]
  rcases h with rfl | rfl | rfl <;> decide
theorem nc_of {x : Int32} (h1 : ¬ x < 1) (h3 : x ≤ 3) : nc_V x := by
  rw [Int32.lt_iff_toInt_lt] at h1
  rw [Int32.le_iff_toInt_le] at h3
  have e1 : (1 : Int32).toInt = 1 := by decide
  have e2 : (2 : Int32).toInt = 2 := by decide
  have e3 : (3 : Int32).toInt = 3 := by decide
  have h : x.toInt = 1 ∨ x.toInt = 2 ∨ x.toInt = 3 := by omega
  rcases h with h | h | h
  · exact Or.inl (Int32.toInt_inj.mp (h.trans e1.symm))
  · exact Or.inr (Or.inl (Int32.toInt_inj.mp (h.trans e2.symm)))
  · exact Or.inr (Or.inr (Int32.toInt_inj.mp (h.trans e3.symm)))
/-- from cell i on: one answer r, and what the reference's three cells hold at the end, for every post of either side -/
theorem nc_loop {n : Nat} (hn : n ≤ 6) (kn : Int32) {a : Nat → Int32} (ha : ∀ j, j < n → nc_V (a j)) : ∀ d i : Nat, i + d = n → ∀ (x : Int32) (b s c : Nat → Int32), ∃ (r : Int32) (b' s' c' : Nat → Int32), (∀ post : Int32 → Prop, post r → wX_apply_4 post (nI n) kn a (d + 1) x (nI i)) ∧ (∀ post : Int32 → SY → Prop, post r (nI n, kn, a, b', s', c') → wY_apply_4 post (nI n) kn (d + 1) x (nI i) a b s c) := by
  intro d
  induction d with
  | zero =>
    intro i hi x b s c
    have h : nI n ≤ nI i := nI_le (by omega) (by omega)
    exact ⟨x, b, s, c, fun _ hp => br_t h hp, fun _ hp => br_t h hp⟩
  | succ d ih =>
    intro i hi x b s c
    have h : ¬ nI n ≤ nI i := nI_ge (by omega) (by omega)
    have hv : vp_in (nI i) 6 := vp_in_nI (by omega) (by omega)
    have hc : a (nI i).toNatClampNeg = a i := congrArg a (nI_clamp (by omega))
    rcases ha i (by omega) with z | z | z
    · obtain ⟨r, b', s', c', hX, hY⟩ := ih (i + 1) (by omega) x.toInt8.toInt32 (upd b 0 (vp_nar .byte x.toInt8.toInt32)) s c
      refine ⟨r, b', s', c', fun post hp => br_f h ⟨hv, ?_⟩, fun post hp => br_f h ⟨hv, ?_⟩⟩
      · exact nm_r (hc.trans z) (br_t rfl (nm_r (nI_1 i) (hX post hp)))
      · exact nm_r (hc.trans z) (br_f (by decide) (br_f (by decide) (br_t rfl (nm_e (nm_r (nI_1 i) (hY post hp))))))
    · obtain ⟨r, b', s', c', hX, hY⟩ := ih (i + 1) (by omega) x.toInt16.toInt32 b (upd s 0 (vp_nar .short x.toInt16.toInt32)) c
      refine ⟨r, b', s', c', fun post hp => br_f h ⟨hv, ?_⟩, fun post hp => br_f h ⟨hv, ?_⟩⟩
      · exact nm_r (hc.trans z) (br_f (by decide) (br_t rfl (nm_r (nI_1 i) (hX post hp))))
      · have e : upd s 0 (vp_nar .short x.toInt16.toInt32) 0 = x.toInt16.toInt32 := (if_pos rfl).trans (nc_vs x)
        exact nm_r (hc.trans z) (br_f (by decide) (br_f (by decide) (br_f (by decide) (br_t rfl (nm_e (nm_r e (nm_r (nI_1 i) (hY post hp))))))))
    · obtain ⟨r, b', s', c', hX, hY⟩ := ih (i + 1) (by omega) (x.toUInt32 % 65536).toInt32 b s (upd c 0 (vp_nar .char (x.toUInt32 % 65536).toInt32))
      refine ⟨r, b', s', c', fun post hp => br_f h ⟨hv, ?_⟩, fun post hp => br_f h ⟨hv, ?_⟩⟩
      · exact nm_r (hc.trans z) (br_f (by decide) (br_f (by decide) (br_t rfl (nm_e (nm_r (nI_1 i) (hX post hp))))))
      · have e : upd c 0 (vp_nar .char (x.toUInt32 % 65536).toInt32) 0 = (x.toUInt32 % 65536).toInt32 := (if_pos rfl).trans (nc_vc x)
        exact nm_r (hc.trans z) (br_f (by decide) (br_f (by decide) (br_f (by decide) (br_f (by decide) (br_t rfl (nm_e (nm_r e (nm_r (nI_1 i) (hY post hp)))))))))
end
section
/-- both sides hold the same count (at most 6), the same known width and the same list, whose first cells are kinds; the reference's three scratch cells are free -/
def i_Rel (_ : Nat) (u : SX) (v : SY) : Prop := ∃ (n : Nat) (kn : Int32) (a b s c : Nat → Int32), n ≤ 6 ∧ (∀ j, j < n → nc_V (a j)) ∧ u = (nI n, kn, a) ∧ v = (nI n, kn, a, b, s, c)
theorem i_up {k : Nat} {u : SX} {v : SY} (h : i_Rel k u v) : i_Rel (k + 2) u v := h
theorem i_vc0 : wpX_init (fun u => wpY_init (fun v => i_Rel 0 u v)) :=
  ⟨0, 0, fun _ => 0, fun _ => 0, fun _ => 0, fun _ => 0, by omega, fun _ hj => absurd hj (by omega), rfl, rfl⟩
/-- the join behind the tests of 'convert': the kind is stored, or the list is full -/
theorem nc_store {k n : Nat} {kn x : Int32} {a b s c : Nat → Int32} (hn : n ≤ 6) (ha : ∀ j, j < n → nc_V (a j)) (hx : nc_V x) : ∃ (r : Int32) (u' : SX) (v' : SY), i_Rel k u' v' ∧ (∀ post : Int32 → SX → Prop, post r u' → wX_convert_35 post x (nI n) kn a) ∧ (∀ post : Int32 → SY → Prop, post r v' → wY_convert_35 post x (nI n) kn a b s c) := by
  by_cases h6 : n < 6
  · have h : nI n < 6 := nI_lt (b := 6) h6 (by decide)
    have hv : vp_in (nI n) 6 := vp_in_nI h6 (by omega)
    have hc : (nI n).toNatClampNeg = n := nI_clamp (by omega)
    have eX : upd a (nI n).toNatClampNeg x = upd a n x := by rw [hc]
    have eY : upd a (nI n).toNatClampNeg (vp_nar .byte x.toInt8.toInt32) = upd a n x := by rw [hc, nc_vb hx]
    refine ⟨1, (nI (n + 1), x, upd a n x), (nI (n + 1), x, upd a n x, b, s, c), ⟨n + 1, x, upd a n x, b, s, c, by omega, fun j hj => ?_, rfl, rfl⟩, fun post hp => br_t h ⟨hv, nm_r eX (nm_r (nI_1 n) hp)⟩, fun post hp => br_t h (nm_r (nI_1 n) ⟨hv, nm_r eY hp⟩)⟩
    by_cases e : j = n
    · have t : upd a n x j = x := if_pos e
      rw [t]; exact hx
    · have t : upd a n x j = a j := if_neg e
      rw [t]; exact ha j (by omega)
  · have h : ¬ nI n < 6 := nI_nlt (b := 6) (by omega) (by omega)
    exact ⟨-2, _, _, ⟨n, kn, a, b, s, c, hn, ha, rfl, rfl⟩, fun _ hp => br_f h hp, fun _ hp => br_f h hp⟩
theorem i_vc_convert {k : Nat} {u : SX} {v : SY} (I : i_Rel k u v) (hk : k + 2 ≤ 1024) (v1 : Int32) : wpX_convert (fun r u' => wpY_convert (fun r' v' => r' = r ∧ i_Rel (k + 2) u' v') v v1) u v1 := by
  have J : i_Rel (k + 2) u v := I
  obtain ⟨n, kn, a, b, s, c, hn, ha, rfl, rfl⟩ := I
  by_cases h1 : v1 < 1
  · exact br_t h1 (br_t h1 ⟨rfl, J⟩)
  by_cases h3 : v1 ≤ 3
  · obtain ⟨r, u', v', R, hX, hY⟩ := nc_store (k := k + 2) (kn := kn) (b := b) (s := s) (c := c) hn ha (nc_of h1 h3)
    by_cases hw : v1 = kn
    · exact br_f h1 (br_t h3 (br_t hw (br_f h1 (br_t h3 (br_t hw ⟨rfl, J⟩)))))
    by_cases h2 : v1 = 2
    · by_cases hw1 : kn = 1
      · exact br_f h1 (br_t h3 (br_f hw (br_t h2 (br_t hw1 (br_f h1 (br_t h3 (br_f hw (br_t h2 (br_t hw1 ⟨rfl, J⟩)))))))))
      · exact br_f h1 (br_t h3 (br_f hw (br_t h2 (br_f hw1 (hX _ (br_f h1 (br_t h3 (br_f hw (br_t h2 (br_f hw1 (hY _ ⟨rfl, R⟩)))))))))))
    · exact br_f h1 (br_t h3 (br_f hw (br_f h2 (hX _ (br_f h1 (br_t h3 (br_f hw (br_f h2 (hY _ ⟨rfl, R⟩)))))))))
  · exact br_f h1 (br_f h3 (br_f h1 (br_f h3 ⟨rfl, J⟩)))
theorem i_vc_apply {k : Nat} {u : SX} {v : SY} (I : i_Rel k u v) (hk : k + 2 ≤ 1024) (v1 : Int32) : wpX_apply (fun r => wpY_apply (fun r' v' => r' = r ∧ i_Rel (k + 2) u v') v v1) u v1 := by
  obtain ⟨n, kn, a, b, s, c, hn, ha, rfl, rfl⟩ := I
  obtain ⟨r, b', s', c', hX, hY⟩ := nc_loop hn kn ha n 0 (by omega) v1 b s c
  rw [nI_0] at hX hY
  exact ⟨n + 1, hX _ ⟨n + 1, hY _ ⟨rfl, n, kn, a, b', s', c', hn, ha, rfl, rfl⟩⟩⟩
theorem i_vc_reset {k : Nat} {u : SX} {v : SY} (I : i_Rel k u v) (hk : k + 2 ≤ 1024) : wpX_reset (fun r u' => wpY_reset (fun r' v' => r' = r ∧ i_Rel (k + 2) u' v') v) u := by
  obtain ⟨n, kn, a, b, s, c, hn, ha, rfl, rfl⟩ := I
  exact ⟨rfl, n, 0, a, b, s, c, hn, ha, rfl, rfl⟩
theorem i_vc_kept {k : Nat} {u : SX} {v : SY} (I : i_Rel k u v) (hk : k + 2 ≤ 1024) : wpX_kept (fun r => wpY_kept (fun r' => r' = r ∧ i_Rel (k + 2) u v) v) u := by
  have J : i_Rel (k + 2) u v := I
  obtain ⟨n, kn, a, b, s, c, hn, ha, rfl, rfl⟩ := I
  exact ⟨rfl, J⟩
theorem i_vc_width {k : Nat} {u : SX} {v : SY} (I : i_Rel k u v) (hk : k + 2 ≤ 1024) : wpX_width (fun r => wpY_width (fun r' => r' = r ∧ i_Rel (k + 2) u v) v) u := by
  have J : i_Rel (k + 2) u v := I
  obtain ⟨n, kn, a, b, s, c, hn, ha, rfl, rfl⟩ := I
  exact ⟨rfl, J⟩
end
