section
/-! ContactBook: the loops of touch and endFrame, X and Y in lockstep as one outcome -/
theorem cb_8 : nI 8 = 8 := by decide +kernel
theorem cb_n0 : vp_nar .byte 0 = 0 := by rw [vp_nar_byte]; decide
theorem cb_us {f : Nat → Int32} {k : Nat} {x : Int32} : upd f k x k = x := if_pos rfl
theorem cb_un {f : Nat → Int32} {k j : Nat} {x : Int32} (h : j ≠ k) : upd f k x j = f j := if_neg h
/-- touch's scan: one answer, one end state for both sides, in which the keys in use are at most cap and no flag stands beyond them -/
theorem cb_scan (q : Int64) (c n : Nat) (ks : Nat → Int64) (fl : Nat → Int32) (hc : c ≤ 8) (hn : n ≤ c) (hz : ∀ j, n ≤ j → fl j = 0) :
    ∀ d i : Nat, i + d = n → ∃ (r : Int32) (n' : Nat) (ks' : Nat → Int64) (fl' : Nat → Int32), n' ≤ c ∧ (∀ j, n' ≤ j → fl' j = 0)
      ∧ (∀ post : Int32 → SX → Prop, post r (nI c, nI n', ks', fl') → wX_touch_40 post q (nI c) (nI n) ks fl (d + 1) (nI i))
      ∧ (∀ post : Int32 → SY → Prop, post r (nI c, nI n', ks', fl') → wY_touch_48 post q (nI c) (nI n) ks fl (d + 1) (nI i)) := by
  intro d
  induction d with
  | zero =>
    intro i hi
    have h : nI n ≤ nI i := nI_le (by omega) (by omega)
    by_cases hf : n < c
    · have h1 : nI n < nI c := nI_lt hf (by omega)
      have h2 : ¬ nI n = nI c := fun e => absurd ((nI_eq (by omega) (by omega)).mp e) (by omega)
      have hin : vp_in (nI n) 8 := vp_in_nI (by omega) (by omega)
      refine ⟨1, n + 1, vp_updL ks (nI n).toNatClampNeg q, upd fl (nI n).toNatClampNeg (vp_nar .byte 1), by omega, ?_, ?_, ?_⟩
      · intro j hj
        rw [nI_clamp (by omega), cb_un (by omega)]
        exact hz j (by omega)
      · intro post hp
        refine br_t h (br_t h1 ⟨hin, nm_e ⟨hin, nm_e (nm_r (nI_1 n) ?_)⟩⟩)
        exact hp
      · intro post hp
        refine br_t h (br_f h2 ⟨hin, nm_e (nm_r (nI_1 n) ⟨hin, nm_e ?_⟩)⟩)
        exact hp
    · have e : n = c := by omega
      have h1 : ¬ nI n < nI c := nI_nlt (by omega) (by omega)
      have h2 : nI n = nI c := by rw [e]
      exact ⟨0, n, ks, fl, hn, hz, fun post hp => br_t h (br_f h1 hp), fun post hp => br_t h (br_t h2 hp)⟩
  | succ d ih =>
    intro i hi
    have h : ¬ nI n ≤ nI i := nI_ge (by omega) (by omega)
    have hin : vp_in (nI i) 8 := vp_in_nI (by omega) (by omega)
    by_cases z : ks (nI i).toNatClampNeg = q
    · refine ⟨2, n, ks, upd fl (nI i).toNatClampNeg (vp_nar .byte 1), hn, ?_, ?_, ?_⟩
      · intro j hj
        rw [nI_clamp (by omega), cb_un (by omega)]
        exact hz j hj
      · intro post hp
        exact br_f h ⟨hin, br_t z ⟨hin, nm_e hp⟩⟩
      · intro post hp
        exact br_f h ⟨hin, br_t z ⟨hin, nm_e hp⟩⟩
    · obtain ⟨r, n', ks', fl', h1, h2, hX, hY⟩ := ih (i + 1) (by omega)
      refine ⟨r, n', ks', fl', h1, h2, fun post hp => br_f h ⟨hin, br_f z (nm_r (nI_1 i) (hX post hp))⟩, fun post hp => br_f h ⟨hin, br_f z (nm_r (nI_1 i) (hY post hp))⟩⟩
/-- endFrame's last loop (X alone): all eight flags cleared -/
theorem cb_clear (post : Int32 → SX → Prop) (r c w : Int32) (ks : Nat → Int64) (hp : post r (c, w, ks, fun _ => 0)) :
    ∀ (d i : Nat) (fl : Nat → Int32), i + d = 8 → (∀ j, j < i → fl j = 0) → (∀ j, 8 ≤ j → fl j = 0) → wX_endFrame_57 post r c w (d + 1) (nI i) ks fl := by
  intro d
  induction d with
  | zero =>
    intro i fl hi h1 h2
    have h : (8 : Int32) ≤ nI i := by rw [← cb_8]; exact nI_le (by omega) (by omega)
    have e : fl = fun _ => 0 := by
      funext j
      by_cases hj : j < i
      · exact h1 j hj
      · exact h2 j (by omega)
    subst e
    exact br_t h hp
  | succ d ih =>
    intro i fl hi h1 h2
    have h : ¬ (8 : Int32) ≤ nI i := by rw [← cb_8]; exact nI_ge (by omega) (by omega)
    have hin : vp_in (nI i) 8 := vp_in_nI (by omega) (by omega)
    refine br_f h ⟨hin, nm_e (nm_r (nI_1 i) (ih (i + 1) _ (by omega) ?_ ?_))⟩
    · intro j hj
      rw [nI_clamp (by omega), cb_n0]
      by_cases e : j = i
      · rw [e]; exact cb_us
      · rw [cb_un e]; exact h1 j (by omega)
    · intro j hj
      rw [nI_clamp (by omega), cb_n0, cb_un (by omega)]
      exact h2 j hj
/-- endFrame's packing loop: X keeps the flags fl, Y (state s) clears each that it has passed; one count w', one array ks' -/
theorem cb_pack (c : Int32) (n : Nat) (fl : Nat → Int32) (hn : n ≤ 8) (hz : ∀ j, n ≤ j → fl j = 0) :
    ∀ (d i w : Nat) (ks : Nat → Int64) (s : Nat → Int32), i + d = n → w ≤ i → (∀ j, j < i → s j = 0) → (∀ j, i ≤ j → s j = fl j) → ∃ (w' : Nat) (ks' : Nat → Int64), w' ≤ n
      ∧ (∀ post : Int32 → SX → Prop, post (nI n - nI w') (c, nI w', ks', fun _ => 0) → wX_endFrame_4 post c (nI n) (d + 1) (nI w) (nI i) ks fl)
      ∧ (∀ post : Int32 → SY → Prop, post (nI n - nI w') (c, nI w', ks', fun _ => 0) → wY_endFrame_4 post c (nI n) (d + 1) (nI w) (nI i) ks s) := by
  intro d
  induction d with
  | zero =>
    intro i w ks s hi hw h1 h2
    have h : nI n ≤ nI i := nI_le (by omega) (by omega)
    refine ⟨w, ks, by omega, ?_, ?_⟩
    · intro post hp
      refine br_t h (nm_e ⟨9, ?_⟩)
      have K := cb_clear post (nI n - nI w) c (nI w) ks hp 8 0 fl rfl (fun j hj => absurd hj (by omega)) (fun j hj => hz j (by omega))
      rw [nI_0] at K
      exact K
    · intro post hp
      have e : s = fun _ => 0 := by
        funext j
        by_cases hj : j < i
        · exact h1 j hj
        · rw [h2 j (by omega)]; exact hz j (by omega)
      subst e
      exact br_t h (nm_e hp)
  | succ d ih =>
    intro i w ks s hi hw h1 h2
    have h : ¬ nI n ≤ nI i := nI_ge (by omega) (by omega)
    have hin : vp_in (nI i) 8 := vp_in_nI (by omega) (by omega)
    have hiw : vp_in (nI w) 8 := vp_in_nI (by omega) (by omega)
    have es : s (nI i).toNatClampNeg = fl (nI i).toNatClampNeg := by rw [nI_clamp (by omega)]; exact h2 i (by omega)
    have g1 : ∀ j, j < i + 1 → upd s (nI i).toNatClampNeg (vp_nar .byte 0) j = 0 := by
      intro j hj
      rw [nI_clamp (by omega), cb_n0]
      by_cases e : j = i
      · rw [e]; exact cb_us
      · rw [cb_un e]; exact h1 j (by omega)
    have g2 : ∀ j, i + 1 ≤ j → upd s (nI i).toNatClampNeg (vp_nar .byte 0) j = fl j := by
      intro j hj
      rw [nI_clamp (by omega), cb_un (by omega)]
      exact h2 j (by omega)
    by_cases z : fl (nI i).toNatClampNeg = 0
    · have z' : s (nI i).toNatClampNeg = 0 := es.trans z
      obtain ⟨w', ks', hw', hX, hY⟩ := ih (i + 1) w ks _ (by omega) (by omega) g1 g2
      exact ⟨w', ks', hw', fun post hp => br_f h ⟨hin, br_t z (nm_r (nI_1 i) (hX post hp))⟩, fun post hp => br_f h ⟨hin, br_t z' ⟨hin, nm_e (nm_r (nI_1 i) (hY post hp))⟩⟩⟩
    · have z' : ¬ s (nI i).toNatClampNeg = 0 := fun e => z (es.symm.trans e)
      obtain ⟨w', ks', hw', hX, hY⟩ := ih (i + 1) (w + 1) (vp_updL ks (nI w).toNatClampNeg (ks (nI i).toNatClampNeg)) _ (by omega) (by omega) g1 g2
      exact ⟨w', ks', hw', fun post hp => br_f h ⟨hin, br_f z ⟨hin, hiw, nm_e (nm_r (nI_1 w) (nm_r (nI_1 i) (hX post hp)))⟩⟩, fun post hp => br_f h ⟨hin, br_f z' ⟨hin, hiw, nm_e (nm_r (nI_1 w) ⟨hin, nm_e (nm_r (nI_1 i) (hY post hp))⟩)⟩⟩⟩
end
section
/-! ContactBook: the relation and the owed statements -/
/-- both books hold one cap c, one count n, the same keys and the same flags; n ≤ c ≤ 8, and no flag stands at or beyond n -/
def i_Rel (_ : Nat) (u : SX) (v : SY) : Prop := ∃ (c n : Nat) (ks : Nat → Int64) (fl : Nat → Int32), u = (nI c, nI n, ks, fl) ∧ v = (nI c, nI n, ks, fl) ∧ c ≤ 8 ∧ n ≤ c ∧ ∀ j, n ≤ j → fl j = 0
theorem i_up {k : Nat} {u : SX} {v : SY} (h : i_Rel k u v) : i_Rel (k + 3) u v := h
theorem cb_new (k : Nat) (c : Nat) (hc : c ≤ 8) : i_Rel k (nI c, 0, fun _ => 0, fun _ => 0) (nI c, 0, fun _ => 0, fun _ => 0) :=
  ⟨c, 0, fun _ => 0, fun _ => 0, rfl, rfl, hc, Nat.zero_le c, fun _ _ => rfl⟩
theorem i_vc0 (k0 : Int32) : wpX_init (fun u => wpY_init (fun v => i_Rel 1 u v) k0) k0 := by
  by_cases h1 : 1 ≤ k0
  · by_cases h8 : k0 ≤ 8
    · have h0 : ¬ k0 < 0 := Int32.not_lt.mpr (Int32.le_trans (by decide) h1)
      obtain ⟨c, hc, rfl⟩ := nI_of2 (M := 8) (n := 8) (by decide) h0 h8
      exact br_t h1 (br_t h8 (br_t h1 (br_t h8 (cb_new 1 c hc))))
    · exact br_t h1 (br_f h8 (br_t h1 (br_f h8 (cb_new 1 8 (by omega)))))
  · have h8 : (1 : Int32) ≤ 8 := by decide
    exact br_f h1 (br_t h8 (br_f h1 (br_t h8 (cb_new 1 1 (by omega)))))
/-- touch behind the ordering of the pair -/
theorem cb_put {k : Nat} (lo hi : Int32) (c n : Nat) (ks : Nat → Int64) (fl : Nat → Int32) (hc : c ≤ 8) (hn : n ≤ c) (hz : ∀ j, n ≤ j → fl j = 0) :
    ∃ (r : Int32) (u' : SX) (v' : SY), i_Rel k u' v'
      ∧ (∀ post : Int32 → SX → Prop, post r u' → wX_touch_22 post lo hi (nI c) (nI n) ks fl)
      ∧ (∀ post : Int32 → SY → Prop, post r v' → wY_touch_28 post lo hi (nI c) (nI n) ks fl) := by
  obtain ⟨r, n', ks', fl', h1, h2, hX, hY⟩ := cb_scan ((lo.toInt64 <<< ((32 : Int32).toInt64 &&& 63)) ||| (hi.toInt64 &&& 4294967295)) c n ks fl hc hn hz n 0 (Nat.zero_add n)
  rw [nI_0] at hX hY
  exact ⟨r, (nI c, nI n', ks', fl'), (nI c, nI n', ks', fl'), ⟨c, n', ks', fl', rfl, rfl, hc, h1, h2⟩, fun post hp => nm_e ⟨n + 1, hX post hp⟩, fun post hp => nm_e ⟨n + 1, hY post hp⟩⟩
theorem i_vc_touch {k : Nat} {u : SX} {v : SY} (I : i_Rel k u v) (hk : k + 3 ≤ 1537) (v1 : Int32) (v2 : Int32) : wpX_touch (fun r u' => wpY_touch (fun r' v' => r' = r ∧ i_Rel (k + 3) u' v') v v1 v2) u v1 v2 := by
  have I0 := I
  obtain ⟨c, n, ks, fl, rfl, rfl, hc, hn, hz⟩ := I
  by_cases e : v1 = v2
  · exact br_t e (br_t e ⟨rfl, I0⟩)
  · by_cases h : v1 ≤ v2
    · have h' : ¬ v2 ≤ v1 := fun z => e (Int32.le_antisymm h z)
      obtain ⟨r, u', v', J, hX, hY⟩ := cb_put (k := k + 3) v1 v2 c n ks fl hc hn hz
      exact br_f e (br_t h (hX _ (br_f e (br_f h' (br_f h' (hY _ ⟨rfl, J⟩))))))
    · have h' : v2 ≤ v1 := Int32.le_of_lt (Int32.not_le.mp h)
      obtain ⟨r, u', v', J, hX, hY⟩ := cb_put (k := k + 3) v2 v1 c n ks fl hc hn hz
      exact br_f e (br_f h (hX _ (br_f e (br_t h' (br_t h' (hY _ ⟨rfl, J⟩))))))
theorem i_vc_endFrame {k : Nat} {u : SX} {v : SY} (I : i_Rel k u v) (hk : k + 3 ≤ 1537) : wpX_endFrame (fun r u' => wpY_endFrame (fun r' v' => r' = r ∧ i_Rel (k + 3) u' v') v) u := by
  obtain ⟨c, n, ks, fl, rfl, rfl, hc, hn, hz⟩ := I
  obtain ⟨w', ks', hw', hX, hY⟩ := cb_pack (nI c) n fl (by omega) hz n 0 0 ks fl (Nat.zero_add n) (Nat.le_refl 0) (fun j hj => absurd hj (by omega)) (fun j _ => rfl)
  rw [nI_0] at hX hY
  exact ⟨n + 1, hX _ ⟨n + 1, hY _ ⟨rfl, c, w', ks', fun _ => 0, rfl, rfl, hc, by omega, fun _ _ => rfl⟩⟩⟩
theorem i_vc_live {k : Nat} {u : SX} {v : SY} (I : i_Rel k u v) (hk : k + 3 ≤ 1537) : wpX_live (fun r => wpY_live (fun r' => r' = r ∧ i_Rel (k + 3) u v) v) u := by
  have I0 := I
  obtain ⟨c, n, ks, fl, rfl, rfl, hc, hn, hz⟩ := I
  exact ⟨rfl, I0⟩
theorem i_vc_key {k : Nat} {u : SX} {v : SY} (I : i_Rel k u v) (hk : k + 3 ≤ 1537) (v1 : Int32) : wpX_key (fun r => wpY_key (fun r' => r' = r ∧ i_Rel (k + 3) u v) v v1) u v1 := by
  have I0 := I
  obtain ⟨c, n, ks, fl, rfl, rfl, hc, hn, hz⟩ := I
  by_cases h0 : v1 < 0
  · exact br_t h0 (br_t h0 ⟨rfl, I0⟩)
  · by_cases h : v1 < nI n
    · have hin : vp_in v1 8 := by
        obtain ⟨j, hj, rfl⟩ := nI_of h0
        rw [nI_ltI hj (by omega)] at h
        exact vp_in_nI (by omega) (by omega)
      exact br_f h0 (br_t h ⟨hin, br_f h0 (br_t h ⟨hin, rfl, I0⟩)⟩)
    · exact br_f h0 (br_f h (br_f h0 (br_f h ⟨rfl, I0⟩)))
end
