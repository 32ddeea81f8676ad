section
/-- both sides keep one picture: p keys on the stack (p at most 8), the clock c, the limit l, the keys a -/
def i_Rel (_ : Nat) (u : SX) (v : SY) : Prop := ∃ (p : Nat) (c l : Int32) (a : Nat → Int64), p ≤ 8 ∧ u = (nI p, c, l, a) ∧ v = (l, nI p, c, a)
theorem rg_8 : nI 8 = 8 := by decide +kernel
theorem rg_3 : nI 3 = 3 := by decide +kernel
theorem rg_t0 : (0 : Int32).toInt = 0 := by decide
theorem rg_tm2 : (-2 : Int32).toInt = -2 := by decide
theorem rg_t1 : (1 : Int32).toInt = 1 := by decide
theorem rg_t3 : (3 : Int32).toInt = 3 := by decide
/-- a short fits (a row of kit/rows) -/
theorem rg_fs (r : Int32) : fits .short (.int r.toInt16.toInt32) = true := by
  have ⟨a, b⟩ := lg_i2s_range r
  have h1 : (-32768 : Int32).toInt = -32768 := by decide
  have h2 : (32767 : Int32).toInt = 32767 := by decide
  simp only [fits, Bool.and_eq_true, decide_eq_true_eq, Int32.le_iff_toInt_le, h1, h2]
  omega
/-- the place below the top is within -/
theorem rg_top {p : Nat} (h1 : 1 ≤ p) (h8 : p ≤ 8) : vp_in (nI p - 1) 8 := by
  obtain ⟨q, rfl⟩ : ∃ q, p = q + 1 := ⟨p - 1, by omega⟩
  rw [nI_pred]
  exact vp_in_nI (by omega) (by omega)
theorem rg_m2 {x : Int32} (h : 0 ≤ x.toInt) : (x + (-2)).toInt = x.toInt - 2 := by
  have hx := Int32.toInt_lt x
  rw [Int32.toInt_add, rg_tm2]
  exact Int.bmod_eq_of_le (by omega) (by omega)
theorem rg_s3 {p : Nat} (h : p ≤ 8) : (nI p - 3).toInt = (p : Int) - 3 := by
  rw [Int32.toInt_sub, nI_toInt (by omega), rg_t3]
  exact Int.bmod_eq_of_le (by omega) (by omega)
/-- the scan, in lockstep: one count r for both sides -/
theorem rg_scan (a : Nat → Int64) (c l : Int32) {p : Nat} (h1 : 1 ≤ p) (h8 : p ≤ 8) : ∀ (n : Nat) (x s : Int32), x.toInt + 3 ≤ (n : Int) → x.toInt < 8 → -2 ≤ x.toInt →
    ∃ r : Int32, (∀ post : Int32 → Prop, post r → wX_repeats_44 post (a (nI p - 1).toNatClampNeg) ((nI p - 1) - c) (nI p) c l a n s x) ∧ (∀ post : Int32 → Prop, post r → wY_repeats_18 post l (nI p) c a n s x) := by
  intro n
  induction n with
  | zero => intro x s h _ h'; omega
  | succ n ih =>
    intro x s hn hx hl
    by_cases h0 : x < 0
    · exact ⟨s, fun _ hp => br_t h0 hp, fun _ hp => br_t h0 hp⟩
    · by_cases hw : x < (nI p - 1) - c
      · exact ⟨s, fun _ hp => br_f h0 (br_t hw hp), fun _ hp => br_f h0 (br_t hw hp)⟩
      · have h0' : 0 ≤ x.toInt := by
          rw [Int32.lt_iff_toInt_lt, rg_t0] at h0
          omega
        have hi : vp_in x 8 := vp_in_iff.mpr ⟨h0', by omega⟩
        have ht := rg_top h1 h8
        have e := rg_m2 h0'
        by_cases z : a x.toNatClampNeg = a (nI p - 1).toNatClampNeg
        · obtain ⟨r, hX, hY⟩ := ih (x + (-2)) (s + 1) (by omega) (by omega) (by omega)
          exact ⟨r, fun post hp => br_f h0 (br_f hw ⟨hi, br_t z (nm_e (nm_e (hX post hp)))⟩), fun post hp => br_f h0 (br_f hw ⟨hi, ht, br_t z (nm_e (nm_e (hY post hp)))⟩)⟩
        · obtain ⟨r, hX, hY⟩ := ih (x + (-2)) s (by omega) (by omega) (by omega)
          exact ⟨r, fun post hp => br_f h0 (br_f hw ⟨hi, br_f z (nm_e (hX post hp))⟩), fun post hp => br_f h0 (br_f hw ⟨hi, ht, br_f z (nm_e (hY post hp))⟩)⟩
/-- repeats: one answer r for both sides, for every post -/
theorem rg_rep (a : Nat → Int64) (c l : Int32) {p : Nat} (h8 : p ≤ 8) :
    ∃ r : Int32, (∀ post : Int32 → Prop, post r → wpX_repeats post (nI p, c, l, a)) ∧ (∀ post : Int32 → Prop, post r → wpY_repeats post (l, nI p, c, a)) := by
  by_cases h0 : p = 0
  · subst h0
    exact ⟨0, fun _ hp => br_t nI_0 hp, fun _ hp => br_t nI_0 hp⟩
  · have hz : ¬ nI p = 0 := nI_ne0 (by omega) (by omega)
    have e := rg_s3 h8
    obtain ⟨r, hX, hY⟩ := rg_scan a c l (p := p) (by omega) h8 8 (nI p - 3) 0 (by omega) (by omega) (by omega)
    exact ⟨r, fun post hp => br_f hz ⟨rg_top (by omega) h8, nm_e (nm_e (nm_e ⟨8, hX post hp⟩))⟩, fun post hp => br_f hz (nm_e ⟨8, hY post hp⟩)⟩
end
section
theorem i_up {k : Nat} {u : SX} {v : SY} (h : i_Rel k u v) : i_Rel (k + 4) u v := h
theorem i_vc0 (k0 : Int32) : wpX_init (fun u => wpY_init (fun v => i_Rel 1 u v) k0) k0 := by
  have h100 : (1 : Int32) ≤ 100 := by decide
  have hr : ∀ l : Int32, i_Rel 1 (0, 0, l, fun _ => 0) (l, 0, 0, fun _ => 0) := fun l => ⟨0, 0, l, fun _ => 0, by omega, by rw [nI_0], by rw [nI_0]⟩
  by_cases h1 : 1 ≤ k0
  · by_cases h2 : k0 ≤ 100
    · exact br_t h1 (br_t h2 (br_t h1 (br_t h2 (hr k0))))
    · exact br_t h1 (br_f h2 (br_t h1 (br_f h2 (hr 100))))
  · exact br_f h1 (br_t h100 (br_f h1 (hr 1)))
theorem i_vc_push {k : Nat} {u : SX} {v : SY} (I : i_Rel k u v) (hk : k + 4 ≤ 2049) (a0 : Int64) (v3 : Int32) : wpX_push (fun r u' => wpY_push (fun r' v' => r' = r ∧ i_Rel (k + 4) u' v') v a0 (lw_bz v3)) u a0 (lw_bz v3) := by
  obtain ⟨p, c, l, a, hp, rfl, rfl⟩ := I
  unfold wpX_push wpY_push
  dsimp only
  by_cases h8 : p = 8
  · subst h8
    have hn : ¬ nI 8 < 8 := by rw [rg_8]; decide
    exact br_t rg_8 (br_f hn ⟨rfl, 8, c, l, a, hp, rfl, rfl⟩)
  · have hlt : nI p < 8 := by rw [← rg_8]; exact nI_lt (by omega) (by omega)
    have hne : ¬ nI p = 8 := by rw [← rg_8, nI_eq (by omega) (by omega)]; exact h8
    have hin : vp_in (nI p) 8 := vp_in_nI (by omega) (by omega)
    have hs : ∀ c' : Int32, i_Rel (k + 4) (nI p + 1, c', l, vp_updL a (nI p).toNatClampNeg a0) (l, nI p + 1, c', vp_updL a (nI p).toNatClampNeg a0) := fun c' =>
      ⟨p + 1, c', l, vp_updL a (nI p).toNatClampNeg a0, by omega, by rw [nI_1], by rw [nI_1]⟩
    have hn : narrow .short (.int (c + 1).toInt16.toInt32) = .int (c + 1).toInt16.toInt32 := lw_i16_n (c + 1)
    have hf := rg_fs (c + 1)
    by_cases z : lw_bz v3 = 0
    · exact br_f hne ⟨hin, nm_e (nm_e (br_t z (nm_e ⟨hn, hf, br_t hlt (nm_e ⟨hin, nm_e (br_t z (nm_e ⟨hn, hf, rfl, hs _⟩))⟩)⟩)))⟩
    · exact br_f hne ⟨hin, nm_e (nm_e (br_f z (br_t hlt (nm_e ⟨hin, nm_e (br_f z ⟨rfl, hs 0⟩)⟩))))⟩
theorem i_vc_pop {k : Nat} {u : SX} {v : SY} (I : i_Rel k u v) (hk : k + 4 ≤ 2049) : wpX_pop (fun r u' => wpY_pop (fun r' v' => r' = r ∧ i_Rel (k + 4) u' v') v) u := by
  obtain ⟨p, c, l, a, hp, rfl, rfl⟩ := I
  unfold wpX_pop wpY_pop
  dsimp only
  by_cases h0 : p = 0
  · subst h0
    exact br_t nI_0 (br_t nI_0 ⟨rfl, 0, c, l, a, hp, rfl, rfl⟩)
  · have hz : ¬ nI p = 0 := nI_ne0 (by omega) (by omega)
    obtain ⟨q, rfl⟩ : ∃ q, p = q + 1 := ⟨p - 1, by omega⟩
    exact br_f hz (nm_e (br_f hz (nm_e ⟨rfl, q, c, l, a, by omega, by rw [nI_pred], by rw [nI_pred]⟩)))
theorem i_vc_repeats {k : Nat} {u : SX} {v : SY} (I : i_Rel k u v) (hk : k + 4 ≤ 2049) : wpX_repeats (fun r => wpY_repeats (fun r' => r' = r ∧ i_Rel (k + 4) u v) v) u := by
  have J : i_Rel (k + 4) u v := I
  obtain ⟨p, c, l, a, hp, rfl, rfl⟩ := I
  obtain ⟨r, hX, hY⟩ := rg_rep a c l hp
  exact hX _ (hY _ ⟨rfl, J⟩)
theorem i_vc_drawn {k : Nat} {u : SX} {v : SY} (I : i_Rel k u v) (hk : k + 4 ≤ 2049) : wpX_drawn (fun r => wpY_drawn (fun r' => r' = r ∧ i_Rel (k + 4) u v) v) u := by
  have J : i_Rel (k + 4) u v := I
  obtain ⟨p, c, l, a, hp, rfl, rfl⟩ := I
  obtain ⟨r, hX, hY⟩ := rg_rep a c l hp
  unfold wpX_drawn wpY_drawn
  dsimp only
  refine hX _ ?_
  by_cases h2 : 2 ≤ r
  · exact br_t h2 (hY _ (br_t h2 ⟨rfl, J⟩))
  · by_cases hc : c < l
    · exact br_f h2 (br_t hc (hY _ (br_f h2 (br_t hc ⟨rfl, J⟩))))
    · exact br_f h2 (br_f hc (hY _ (br_f h2 (br_f hc ⟨rfl, J⟩))))
theorem i_vc_keyAt {k : Nat} {u : SX} {v : SY} (I : i_Rel k u v) (hk : k + 4 ≤ 2049) (v1 : Int32) : wpX_keyAt (fun r => wpY_keyAt (fun r' => r' = r ∧ i_Rel (k + 4) u v) v v1) u v1 := by
  have J : i_Rel (k + 4) u v := I
  obtain ⟨p, c, l, a, hp, rfl, rfl⟩ := I
  unfold wpX_keyAt wpY_keyAt
  dsimp only
  by_cases h0 : v1 < 0
  · exact br_t h0 (br_t h0 ⟨rfl, J⟩)
  · by_cases h : v1 < nI p
    · have hi : vp_in v1 8 := by
        obtain ⟨j, hj, rfl⟩ := nI_of h0
        rw [nI_ltI hj (by omega)] at h
        exact vp_in_nI (by omega) (by omega)
      exact br_f h0 (br_t h ⟨hi, br_f h0 (br_t h ⟨hi, rfl, J⟩)⟩)
    · exact br_f h0 (br_f h (br_f h0 (br_f h ⟨rfl, J⟩)))
end
