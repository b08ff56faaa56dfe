section
theorem sw_5 : nI 5 = 5 := by decide +kernel
theorem sw_us {f : Nat → Int32} {k : Nat} {x : Int32} : upd f k x k = x := if_pos rfl
theorem sw_un {f : Nat → Int32} {k j : Nat} {x : Int32} (h : j ≠ k) : upd f k x j = f j := if_neg h
theorem sw_in {p : Int32} (h0 : ¬ p < 0) (h4 : p ≤ 4) : vp_in p 5 := by
  obtain ⟨j, hj, rfl⟩ := nI_of2 (x := p) (M := 4) (n := 4) (by decide) h0 h4
  exact vp_in_nI (by omega) (by omega)
/-- both scans from peer j on, from the same sums: the component looks its best peer's value up again, the reference has kept it (tp) -/
theorem sw_scan (w : Nat → Int32) : ∀ d j : Nat, j + d = 5 → ∀ (t b tp : Int32) (c : Nat → Int32), (b = -1 ∨ ∃ m : Nat, m < j ∧ b = nI m ∧ tp = c m) → ∃ (r : Int32) (s : (Nat → Int32) × (Nat → Int32)), (∀ post : Int32 → SX → Prop, post r s → wX_next_6 post (d + 1) t b (nI j) w c) ∧ (∀ post : Int32 → SY → Prop, post r s → wY_next_9 post (d + 1) t b tp (nI j) w c) := by
  intro d
  induction d with
  | zero =>
    intro j hj t b tp c hb
    have h : (5 : Int32) ≤ nI j := by rw [← sw_5]; exact nI_le (by omega) (by omega)
    rcases hb with rfl | ⟨m, hm, rfl, ht⟩
    · have h0 : ¬ (0 : Int32) ≤ -1 := by decide
      have h1 : (-1 : Int32) < 0 := by decide
      exact ⟨-1, (w, c), fun _ hp => br_t h (br_f h0 hp), fun _ hp => br_t h (br_t h1 hp)⟩
    · have h0 : (0 : Int32) ≤ nI m := nI_pos' (by omega)
      have h1 : ¬ nI m < 0 := nI_pos (by omega)
      have hi : vp_in (nI m) 5 := vp_in_nI (by omega) (by omega)
      exact ⟨nI m, (w, upd c (nI m).toNatClampNeg (c (nI m).toNatClampNeg - t)), fun _ hp => br_t h (br_t h0 ⟨hi, hi, nm_e hp⟩), fun _ hp => br_t h (br_f h1 ⟨hi, hi, nm_e hp⟩)⟩
  | succ d ih =>
    intro j hj t b tp c hb
    have h : ¬ (5 : Int32) ≤ nI j := lt5' j (by omega)
    have hi : vp_in (nI j) 5 := vp_in_nI (by omega) (by omega)
    have hc : (nI j).toNatClampNeg = j := nI_clamp (by omega)
    by_cases z : w (nI j).toNatClampNeg ≤ 0
    · have hb' : b = -1 ∨ ∃ m : Nat, m < j + 1 ∧ b = nI m ∧ tp = c m := hb.imp id (fun ⟨m, hm, e⟩ => ⟨m, Nat.lt_succ_of_lt hm, e⟩)
      obtain ⟨r, s, hX, hY⟩ := ih (j + 1) (by omega) t b tp c hb'
      exact ⟨r, s, fun post hp => br_f h ⟨hi, br_t z (nm_r (nI_1 j) (hX post hp))⟩, fun post hp => br_f h ⟨hi, nm_e (br_t z (nm_r (nI_1 j) (hY post hp)))⟩⟩
    · rcases hb with rfl | ⟨m, hm, rfl, rfl⟩
      · have h1 : (-1 : Int32) < 0 := by decide
        obtain ⟨r, s, hX, hY⟩ := ih (j + 1) (by omega) (t + w (nI j).toNatClampNeg) (nI j) (c (nI j).toNatClampNeg + w (nI j).toNatClampNeg) (upd c (nI j).toNatClampNeg (c (nI j).toNatClampNeg + w (nI j).toNatClampNeg)) (Or.inr ⟨j, by omega, rfl, by rw [hc]; exact sw_us.symm⟩)
        exact ⟨r, s, fun post hp => br_f h ⟨hi, br_f z ⟨hi, hi, hi, nm_e ⟨hi, nm_e (br_t h1 (nm_r (nI_1 j) (hX post hp)))⟩⟩⟩, fun post hp => br_f h ⟨hi, nm_e (br_f z (nm_e ⟨hi, hi, nm_e (nm_e (br_t h1 (nm_r (nI_1 j) (hY post hp))))⟩))⟩⟩
      · have h1 : ¬ nI m < 0 := nI_pos (by omega)
        have him : vp_in (nI m) 5 := vp_in_nI (by omega) (by omega)
        have hcm : (nI m).toNatClampNeg = m := nI_clamp (by omega)
        have hne : m ≠ j := by omega
        have eJ : upd c (nI j).toNatClampNeg (c (nI j).toNatClampNeg + w (nI j).toNatClampNeg) (nI j).toNatClampNeg = c (nI j).toNatClampNeg + w (nI j).toNatClampNeg := sw_us
        have eM : upd c (nI j).toNatClampNeg (c (nI j).toNatClampNeg + w (nI j).toNatClampNeg) (nI m).toNatClampNeg = c m := by rw [hcm, hc]; exact sw_un hne
        by_cases g : c (nI j).toNatClampNeg + w (nI j).toNatClampNeg ≤ c m
        · have gX : upd c (nI j).toNatClampNeg (c (nI j).toNatClampNeg + w (nI j).toNatClampNeg) (nI j).toNatClampNeg ≤ upd c (nI j).toNatClampNeg (c (nI j).toNatClampNeg + w (nI j).toNatClampNeg) (nI m).toNatClampNeg := by rw [eJ, eM]; exact g
          obtain ⟨r, s, hX, hY⟩ := ih (j + 1) (by omega) (t + w (nI j).toNatClampNeg) (nI m) (c m) (upd c (nI j).toNatClampNeg (c (nI j).toNatClampNeg + w (nI j).toNatClampNeg)) (Or.inr ⟨m, by omega, rfl, by rw [hc]; exact (sw_un hne).symm⟩)
          exact ⟨r, s, fun post hp => br_f h ⟨hi, br_f z ⟨hi, hi, hi, nm_e ⟨hi, nm_e (br_f h1 ⟨hi, him, br_t gX (nm_r (nI_1 j) (hX post hp))⟩)⟩⟩⟩, fun post hp => br_f h ⟨hi, nm_e (br_f z (nm_e ⟨hi, hi, nm_e (nm_e (br_f h1 (br_t g (nm_r (nI_1 j) (hY post hp)))))⟩))⟩⟩
        · have gX : ¬ upd c (nI j).toNatClampNeg (c (nI j).toNatClampNeg + w (nI j).toNatClampNeg) (nI j).toNatClampNeg ≤ upd c (nI j).toNatClampNeg (c (nI j).toNatClampNeg + w (nI j).toNatClampNeg) (nI m).toNatClampNeg := by rw [eJ, eM]; exact g
          obtain ⟨r, s, hX, hY⟩ := ih (j + 1) (by omega) (t + w (nI j).toNatClampNeg) (nI j) (c (nI j).toNatClampNeg + w (nI j).toNatClampNeg) (upd c (nI j).toNatClampNeg (c (nI j).toNatClampNeg + w (nI j).toNatClampNeg)) (Or.inr ⟨j, by omega, rfl, by rw [hc]; exact sw_us.symm⟩)
          exact ⟨r, s, fun post hp => br_f h ⟨hi, br_f z ⟨hi, hi, hi, nm_e ⟨hi, nm_e (br_f h1 ⟨hi, him, br_f gX (nm_r (nI_1 j) (hX post hp))⟩)⟩⟩⟩, fun post hp => br_f h ⟨hi, nm_e (br_f z (nm_e ⟨hi, hi, nm_e (nm_e (br_f h1 (br_f g (nm_r (nI_1 j) (hY post hp)))))⟩))⟩⟩
end
section
/-- the two objects hold the same weights and the same running values -/
def i_Rel (_ : Nat) (u : SX) (v : SY) : Prop := u = v
theorem i_up {k : Nat} {u : SX} {v : SY} (h : i_Rel k u v) : i_Rel (k + 3) u v := h
theorem i_vc0 : wpX_init (fun u => wpY_init (fun v => i_Rel 0 u v)) := rfl
theorem i_vc_next {k : Nat} {u : SX} {v : SY} (I : i_Rel k u v) (hk : k + 3 ≤ 1536) : wpX_next (fun r u' => wpY_next (fun r' v' => r' = r ∧ i_Rel (k + 3) u' v') v) u := by
  cases I
  obtain ⟨w, c⟩ := u
  obtain ⟨r, s, hX, hY⟩ := sw_scan w 5 0 rfl 0 (-1) 0 c (Or.inl rfl)
  rw [nI_0] at hX hY
  exact Exists.intro 6 (hX _ (Exists.intro 6 (hY _ ⟨rfl, rfl⟩)))
theorem i_vc_setWeight {k : Nat} {u : SX} {v : SY} (I : i_Rel k u v) (hk : k + 3 ≤ 1536) (v1 : Int32) (v2 : Int32) : wpX_setWeight (fun r u' => wpY_setWeight (fun r' v' => r' = r ∧ i_Rel (k + 3) u' v') v v1 v2) u v1 v2 := by
  cases I
  obtain ⟨w, c⟩ := u
  by_cases h0 : v1 < 0
  · exact br_t h0 (br_t h0 ⟨rfl, rfl⟩)
  · by_cases h4 : v1 ≤ 4
    · have hi : vp_in v1 5 := sw_in h0 h4
      by_cases g0 : v2 < 0
      · exact br_f h0 (br_t h4 (br_t g0 (br_f h0 (br_t h4 (br_t g0 ⟨rfl, rfl⟩)))))
      · by_cases g1 : v2 ≤ 1000
        · exact br_f h0 (br_t h4 (br_f g0 (br_t g1 ⟨hi, nm_e ⟨hi, nm_e ⟨hi, nm_e (br_f h0 (br_t h4 (br_f g0 (br_t g1 ⟨hi, nm_e ⟨hi, nm_e ⟨hi, nm_e ⟨rfl, rfl⟩⟩⟩⟩))))⟩⟩⟩)))
        · exact br_f h0 (br_t h4 (br_f g0 (br_f g1 (br_f h0 (br_t h4 (br_f g0 (br_f g1 ⟨rfl, rfl⟩)))))))
    · exact br_f h0 (br_f h4 (br_f h0 (br_f h4 ⟨rfl, rfl⟩)))
theorem i_vc_penalize {k : Nat} {u : SX} {v : SY} (I : i_Rel k u v) (hk : k + 3 ≤ 1536) (v1 : Int32) : wpX_penalize (fun r u' => wpY_penalize (fun r' v' => r' = r ∧ i_Rel (k + 3) u' v') v v1) u v1 := by
  cases I
  obtain ⟨w, c⟩ := u
  by_cases h0 : v1 < 0
  · exact br_t h0 (br_t h0 ⟨rfl, rfl⟩)
  · by_cases h4 : v1 ≤ 4
    · have hi : vp_in v1 5 := sw_in h0 h4
      by_cases g : w v1.toNatClampNeg ≤ 1
      · exact br_f h0 (br_t h4 ⟨hi, br_t g ⟨hi, br_f h0 (br_t h4 ⟨hi, br_t g ⟨hi, rfl, rfl⟩⟩)⟩⟩)
      · exact br_f h0 (br_t h4 ⟨hi, br_f g ⟨hi, hi, nm_e ⟨hi, br_f h0 (br_t h4 ⟨hi, br_f g ⟨hi, hi, nm_e ⟨sw_us.symm, rfl⟩⟩⟩)⟩⟩⟩)
    · exact br_f h0 (br_f h4 (br_f h0 (br_f h4 ⟨rfl, rfl⟩)))
theorem i_vc_current {k : Nat} {u : SX} {v : SY} (I : i_Rel k u v) (hk : k + 3 ≤ 1536) (v1 : Int32) : wpX_current (fun r => wpY_current (fun r' => r' = r ∧ i_Rel (k + 3) u v) v v1) u v1 := by
  cases I
  obtain ⟨w, c⟩ := u
  by_cases h0 : v1 < 0
  · exact br_t h0 (br_t h0 ⟨rfl, rfl⟩)
  · by_cases h4 : v1 ≤ 4
    · have hi : vp_in v1 5 := sw_in h0 h4
      exact br_f h0 (br_t h4 ⟨hi, br_f h0 (br_t h4 ⟨hi, rfl, rfl⟩)⟩)
    · exact br_f h0 (br_f h4 (br_f h0 (br_f h4 ⟨rfl, rfl⟩)))
end
