section
/-- both sides hold one size m of at most 64, one disk d and one volatile copy e -/
def i_Rel (_ : Nat) (u : SX) (v : SY) : Prop := ∃ (m : Nat) (d e : Nat → Int32), m ≤ 64 ∧ u = (nI m, d, e) ∧ v = (nI m, e, d)
theorem cs_mk {k m : Nat} {d e : Nat → Int32} (h : m ≤ 64) : i_Rel k (nI m, d, e) (nI m, e, d) := ⟨m, d, e, h, rfl, rfl⟩
/-- a new pair of stores of a clamped size -/
theorem cs_new {x : Int32} (h0 : ¬ x < 0) (h : x ≤ 64) : i_Rel 1 (x, (fun _ => 0), (fun _ => 0)) (x, (fun _ => 0), (fun _ => 0)) := by
  obtain ⟨j, hj, rfl⟩ := nI_of2 (n := 64) (by decide) h0 h
  exact cs_mk hj
/-- an index that passed both tests is within the arrays of 64 -/
theorem cs_in {m : Nat} {x : Int32} (hm : m ≤ 64) (h0 : ¬ x < 0) (h : x < nI m) : vp_in x 64 := by
  obtain ⟨j, hj, rfl⟩ := nI_of h0
  rw [nI_ltI hj (by omega)] at h
  exact vp_in_nI (by omega) (by omega)
/-- writing the value that is there already changes nothing: what the reference's sync does and the component's does not -/
theorem cs_self (d : Nat → Int32) (i : Nat) (x : Int32) (h : d i = x) : upd d i x = d := by
  funext j
  show (if j = i then x else d j) = d j
  by_cases hj : j = i
  · rw [if_pos hj, hj, h]
  · rw [if_neg hj]
/-- sync from cell i on, both sides: one count r and one disk d' -/
theorem cs_sync {m : Nat} (hm : m ≤ 64) (e : Nat → Int32) : ∀ t i : Nat, i + t = m → ∀ (c : Int32) (d : Nat → Int32), ∃ (r : Int32) (d' : Nat → Int32), (∀ post : Int32 → SX → Prop, post r (nI m, d', e) → wX_sync_4 post (nI m) (t + 1) c (nI i) d e) ∧ (∀ post : Int32 → SY → Prop, post r (nI m, e, d') → wY_sync_4 post (nI m) (t + 1) c (nI i) e d) := by
  intro t
  induction t with
  | zero =>
    intro i hi c d
    have h : nI m ≤ nI i := nI_le (by omega) (by omega)
    exact ⟨c, d, fun _ hp => br_t h hp, fun _ hp => br_t h hp⟩
  | succ t ih =>
    intro i hi c d
    have h : ¬ nI m ≤ nI i := nI_ge (by omega) (by omega)
    have hv : vp_in (nI i) 64 := vp_in_nI (by omega) (by omega)
    by_cases z : d (nI i).toNatClampNeg = e (nI i).toNatClampNeg
    · obtain ⟨r, d', hX, hY⟩ := ih (i + 1) (by omega) c d
      exact ⟨r, d', fun post hp => br_f h ⟨hv, hv, br_t z (nm_r (nI_1 i) (hX post hp))⟩,
        fun post hp => br_f h ⟨hv, hv, br_t z (And.intro hv (And.intro hv (nm_r (cs_self d _ _ z) (nm_r (nI_1 i) (hY post hp)))))⟩⟩
    · obtain ⟨r, d', hX, hY⟩ := ih (i + 1) (by omega) (c + 1) (upd d (nI i).toNatClampNeg (e (nI i).toNatClampNeg))
      exact ⟨r, d', fun post hp => br_f h ⟨hv, hv, br_f z ⟨hv, hv, nm_e (nm_e (nm_r (nI_1 i) (hX post hp)))⟩⟩,
        fun post hp => br_f h ⟨hv, hv, br_f z (nm_e (And.intro hv (And.intro hv (nm_e (nm_r (nI_1 i) (hY post hp))))))⟩⟩
/-- crash from cell i on, both sides: one volatile copy e' -/
theorem cs_crash {m : Nat} (hm : m ≤ 64) (d : Nat → Int32) : ∀ t i : Nat, i + t = m → ∀ e : Nat → Int32, ∃ e' : Nat → Int32, (∀ post : SX → Prop, post (nI m, d, e') → wX_crash_2 post (nI m) (t + 1) (nI i) d e) ∧ (∀ post : SY → Prop, post (nI m, e', d) → wY_crash_2 post (nI m) (t + 1) (nI i) e d) := by
  intro t
  induction t with
  | zero =>
    intro i hi e
    have h : nI m ≤ nI i := nI_le (by omega) (by omega)
    exact ⟨e, fun _ hp => br_t h hp, fun _ hp => br_t h hp⟩
  | succ t ih =>
    intro i hi e
    have h : ¬ nI m ≤ nI i := nI_ge (by omega) (by omega)
    have hv : vp_in (nI i) 64 := vp_in_nI (by omega) (by omega)
    obtain ⟨e', hX, hY⟩ := ih (i + 1) (by omega) (upd e (nI i).toNatClampNeg (d (nI i).toNatClampNeg))
    exact ⟨e', fun post hp => br_f h ⟨hv, hv, nm_e (nm_r (nI_1 i) (hX post hp))⟩, fun post hp => br_f h ⟨hv, hv, nm_e (nm_r (nI_1 i) (hY post hp))⟩⟩
end
section
theorem i_up {k : Nat} {u : SX} {v : SY} (h : i_Rel k u v) : i_Rel (k + 3) u v := h
theorem i_vc0 (k0 : Int32) : wpX_init (fun u => wpY_init (fun v => i_Rel 1 u v) k0) k0 := by
  by_cases h0 : 0 ≤ k0
  · by_cases h : k0 ≤ 64
    · exact br_t h0 (br_t h (br_t h0 (br_t h (cs_new (Int32.not_lt.mpr h0) h))))
    · exact br_t h0 (br_f h (br_t h0 (br_f h (cs_new (x := 64) (by decide) (by decide)))))
  · exact br_f h0 (br_t (by decide) (br_f h0 (cs_new (x := 0) (by decide) (by decide))))
theorem i_vc_write {k : Nat} {u : SX} {v : SY} (I : i_Rel k u v) (hk : k + 3 ≤ 1537) (v1 : Int32) (v2 : Int32) : wpX_write (fun r u' => wpY_write (fun r' v' => r' = r ∧ i_Rel (k + 3) u' v') v v1 v2) u v1 v2 := by
  obtain ⟨m, d, e, hm, rfl, rfl⟩ := I
  by_cases h0 : v1 < 0
  · exact br_t h0 (br_t h0 ⟨rfl, cs_mk hm⟩)
  · by_cases h : v1 < nI m
    · have hi := cs_in hm h0 h
      exact br_f h0 (br_t h ⟨hi, nm_e (br_f h0 (br_t h ⟨hi, nm_e ⟨rfl, cs_mk hm⟩⟩))⟩)
    · exact br_f h0 (br_f h (br_f h0 (br_f h ⟨rfl, cs_mk hm⟩)))
theorem i_vc_read {k : Nat} {u : SX} {v : SY} (I : i_Rel k u v) (hk : k + 3 ≤ 1537) (v1 : Int32) : wpX_read (fun r => wpY_read (fun r' => r' = r ∧ i_Rel (k + 3) u v) v v1) u v1 := by
  obtain ⟨m, d, e, hm, rfl, rfl⟩ := I
  by_cases h0 : v1 < 0
  · exact br_t h0 (br_t h0 ⟨rfl, cs_mk hm⟩)
  · by_cases h : v1 < nI m
    · have hi := cs_in hm h0 h
      exact br_f h0 (br_t h ⟨hi, br_f h0 (br_t h ⟨hi, rfl, cs_mk hm⟩)⟩)
    · exact br_f h0 (br_f h (br_f h0 (br_f h ⟨rfl, cs_mk hm⟩)))
theorem i_vc_sync {k : Nat} {u : SX} {v : SY} (I : i_Rel k u v) (hk : k + 3 ≤ 1537) : wpX_sync (fun r u' => wpY_sync (fun r' v' => r' = r ∧ i_Rel (k + 3) u' v') v) u := by
  obtain ⟨m, d, e, hm, rfl, rfl⟩ := I
  obtain ⟨r, d', hX, hY⟩ := cs_sync hm e m 0 (by omega) 0 d
  rw [nI_0] at hX hY
  exact ⟨m + 1, hX _ ⟨m + 1, hY _ ⟨rfl, cs_mk hm⟩⟩⟩
theorem i_vc_crash {k : Nat} {u : SX} {v : SY} (I : i_Rel k u v) (hk : k + 3 ≤ 1537) : wpX_crash (fun u' => wpY_crash (fun v' => i_Rel (k + 3) u' v') v) u := by
  obtain ⟨m, d, e, hm, rfl, rfl⟩ := I
  obtain ⟨e', hX, hY⟩ := cs_crash hm d m 0 (by omega) e
  rw [nI_0] at hX hY
  exact ⟨m + 1, hX _ ⟨m + 1, hY _ (cs_mk hm)⟩⟩
theorem i_vc_peekDisk {k : Nat} {u : SX} {v : SY} (I : i_Rel k u v) (hk : k + 3 ≤ 1537) (v1 : Int32) : wpX_peekDisk (fun r => wpY_peekDisk (fun r' => r' = r ∧ i_Rel (k + 3) u v) v v1) u v1 := by
  obtain ⟨m, d, e, hm, rfl, rfl⟩ := I
  by_cases h0 : v1 < 0
  · exact br_t h0 (br_t h0 ⟨rfl, cs_mk hm⟩)
  · by_cases h : v1 < nI m
    · have hi := cs_in hm h0 h
      exact br_f h0 (br_t h ⟨hi, br_f h0 (br_t h ⟨hi, rfl, cs_mk hm⟩)⟩)
    · exact br_f h0 (br_f h (br_f h0 (br_f h ⟨rfl, cs_mk hm⟩)))
end
